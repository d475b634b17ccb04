/-! CrateDeckModel -/
set_option maxRecDepth 100000
def RX7 : String := "CrateDeckModel"
def TX7 : u_T := fun k => match k with
  | 0 => ("CrateDeckModel", "thrown", "I", false)
  | 1 => ("CrateDeckModel", "now", "I", false)
  | 2 => ("CrateDeckModel", "layers", "I", false)
  | 3 => ("CrateDeckModel", "entries", "[I", true)
  | 4 => ("CrateDeckModel", "entryPath", "[I", true)
  | 5 => ("CrateDeckModel", "entryKind", "[I", true)
  | 6 => ("CrateDeckModel", "entryContent", "[I", true)
  | 7 => ("CrateDeckModel", "drafted", "I", false)
  | 8 => ("CrateDeckModel", "draftPath", "[I", true)
  | 9 => ("CrateDeckModel", "draftKind", "[I", true)
  | 10 => ("CrateDeckModel", "draftContent", "[I", true)
  | 11 => ("CrateDeckModel", "made", "I", false)
  | 12 => ("CrateDeckModel", "madePath", "[I", true)
  | 13 => ("CrateDeckModel", "madeKind", "[I", true)
  | 14 => ("CrateDeckModel", "madeContent", "[I", true)
  | 15 => ("CrateDeckModel", "images", "I", false)
  | 16 => ("CrateDeckModel", "length", "[I", true)
  | 17 => ("CrateDeckModel", "row", "[I", true)
  | 18 => ("CrateDeckModel", "onHost", "I", false)
  | 19 => ("CrateDeckModel", "inRegistry", "I", false)
  | 20 => ("CrateDeckModel", "kept", "I", false)
  | 21 => ("CrateDeckModel", "containers", "I", false)
  | 22 => ("CrateDeckModel", "number", "[I", true)
  | 23 => ("CrateDeckModel", "imageOf", "[I", true)
  | 24 => ("CrateDeckModel", "nameOf", "[I", true)
  | 25 => ("CrateDeckModel", "serviceOf", "[I", true)
  | 26 => ("CrateDeckModel", "isHealthy", "[Z", true)
  | 27 => ("CrateDeckModel", "own", "[I", true)
  | 28 => ("CrateDeckModel", "ownPath", "[I", true)
  | 29 => ("CrateDeckModel", "ownKind", "[I", true)
  | 30 => ("CrateDeckModel", "ownContent", "[I", true)
  | 31 => ("CrateDeckModel", "oldPath", "[I", true)
  | 32 => ("CrateDeckModel", "oldKind", "[I", true)
  | 33 => ("CrateDeckModel", "oldContent", "[I", true)
  | 34 => ("CrateDeckModel", "volumeAt", "[I", true)
  | 35 => ("CrateDeckModel", "inVolume", "[I", true)
  | 36 => ("CrateDeckModel", "filters", "[I", true)
  | 37 => ("CrateDeckModel", "denied", "[I", true)
  | 38 => ("CrateDeckModel", "kills", "[I", true)
  | 39 => ("CrateDeckModel", "address", "[I", true)
  | 40 => ("CrateDeckModel", "portOf", "[I", true)
  | 41 => ("CrateDeckModel", "portTo", "[I", true)
  | 42 => ("CrateDeckModel", "users", "I", false)
  | 43 => ("CrateDeckModel", "userParent", "[I", true)
  | 44 => ("CrateDeckModel", "ranges", "[I", true)
  | 45 => ("CrateDeckModel", "inside", "[I", true)
  | 46 => ("CrateDeckModel", "outside", "[I", true)
  | 47 => ("CrateDeckModel", "howMany", "[I", true)
  | 48 => ("CrateDeckModel", "groups", "I", false)
  | 49 => ("CrateDeckModel", "groupParent", "[I", true)
  | 50 => ("CrateDeckModel", "mostProcesses", "[I", true)
  | 51 => ("CrateDeckModel", "mostMemory", "[I", true)
  | 52 => ("CrateDeckModel", "shares", "[I", true)
  | 53 => ("CrateDeckModel", "ran", "I", false)
  | 54 => ("CrateDeckModel", "process", "[I", true)
  | 55 => ("CrateDeckModel", "runsIn", "[I", true)
  | 56 => ("CrateDeckModel", "groupOf", "[I", true)
  | 57 => ("CrateDeckModel", "memory", "[I", true)
  | 58 => ("CrateDeckModel", "way", "[I", true)
  | 59 => ("CrateDeckModel", "builds", "I", false)
  | 60 => ("CrateDeckModel", "hits", "I", false)
  | 61 => ("CrateDeckModel", "buildImage", "[I", true)
  | 62 => ("CrateDeckModel", "buildNumber", "[I", true)
  | 63 => ("CrateDeckModel", "buildReads", "[I", true)
  | 64 => ("CrateDeckModel", "buildWrites", "[I", true)
  | 65 => ("CrateDeckModel", "built", "[I", true)
  | 66 => ("CrateDeckModel", "services", "I", false)
  | 67 => ("CrateDeckModel", "wishedName", "[I", true)
  | 68 => ("CrateDeckModel", "wishedImage", "[I", true)
  | 69 => ("CrateDeckModel", "before", "[I", true)
  | 70 => ("CrateDeckModel", "wished", "[I", true)
  | _ => ("CrateDeckModel", "failures", "[I", true)
def tyX7 : Nat → FieldType := fun k => match k with
  | 0 => .int
  | 1 => .int
  | 2 => .int
  | 3 => .array .int
  | 4 => .array .int
  | 5 => .array .int
  | 6 => .array .int
  | 7 => .int
  | 8 => .array .int
  | 9 => .array .int
  | 10 => .array .int
  | 11 => .int
  | 12 => .array .int
  | 13 => .array .int
  | 14 => .array .int
  | 15 => .int
  | 16 => .array .int
  | 17 => .array .int
  | 18 => .int
  | 19 => .int
  | 20 => .int
  | 21 => .int
  | 22 => .array .int
  | 23 => .array .int
  | 24 => .array .int
  | 25 => .array .int
  | 26 => .array .boolean
  | 27 => .array .int
  | 28 => .array .int
  | 29 => .array .int
  | 30 => .array .int
  | 31 => .array .int
  | 32 => .array .int
  | 33 => .array .int
  | 34 => .array .int
  | 35 => .array .int
  | 36 => .array .int
  | 37 => .array .int
  | 38 => .array .int
  | 39 => .array .int
  | 40 => .array .int
  | 41 => .array .int
  | 42 => .int
  | 43 => .array .int
  | 44 => .array .int
  | 45 => .array .int
  | 46 => .array .int
  | 47 => .array .int
  | 48 => .int
  | 49 => .array .int
  | 50 => .array .int
  | 51 => .array .int
  | 52 => .array .int
  | 53 => .int
  | 54 => .array .int
  | 55 => .array .int
  | 56 => .array .int
  | 57 => .array .int
  | 58 => .array .int
  | 59 => .int
  | 60 => .int
  | 61 => .array .int
  | 62 => .array .int
  | 63 => .array .int
  | 64 => .array .int
  | 65 => .array .int
  | 66 => .int
  | 67 => .array .int
  | 68 => .array .int
  | 69 => .array .int
  | 70 => .array .int
  | _ => .array .int
abbrev wsX70 : List Cond := u_ws RX7 TX7 72
set_option maxRecDepth 100000 in
theorem nmX7 : ∀ a, a < 72 → ∀ b, b < 72 → a ≠ b → (TX7 a).2.1 ≠ (TX7 b).2.1 := by decide +kernel
set_option maxRecDepth 100000 in
theorem tyX7_ok : ∀ k, k < 72 → parseFieldDescriptor (TX7 k).2.2.1 = some (tyX7 k) := by decide +kernel
abbrev cX7_init : ByteArray := prog_17_method_1_code
def yX7_init : MethodName := ⟨RX7, "<init>", "()V"⟩
def dkwX7_init_24 : List UInt8 := [16, 50, 79, 42, 180, 0, 138, 3, 17, 39, 15, 79, 42, 180, 0, 141, 3, 4, 79, 177]
abbrev dktX7_init_24 : List UInt8 := dkwX7_init_24 ++ []
def dkwX7_init_23 : List UInt8 := [2, 79, 42, 180, 0, 144, 27, 16, 50, 112, 2, 79, 132, 1, 1, 167, 255, 209, 42, 180, 0, 135, 3]
abbrev dktX7_init_23 : List UInt8 := dkwX7_init_23 ++ dktX7_init_24
def dkwX7_init_22 : List UInt8 := [180, 0, 87, 27, 2, 79, 42, 180, 0, 105, 27, 16, 100, 112, 2, 79, 42, 180, 0, 90, 27, 16, 40, 112]
abbrev dktX7_init_22 : List UInt8 := dkwX7_init_22 ++ dktX7_init_23
def dkwX7_init_21 : List UInt8 := [180, 0, 114, 27, 2, 79, 132, 1, 1, 167, 255, 226, 3, 60, 27, 17, 3, 32, 162, 0, 46, 42]
abbrev dktX7_init_21 : List UInt8 := dkwX7_init_21 ++ dktX7_init_22
def dkwX7_init_20 : List UInt8 := [3, 60, 27, 16, 8, 162, 0, 30, 42, 180, 0, 50, 27, 2, 79, 42, 180, 0, 132, 27, 2, 79, 42]
abbrev dktX7_init_20 : List UInt8 := dkwX7_init_20 ++ dktX7_init_21
def dkwX7_init_19 : List UInt8 := [181, 0, 177, 42, 6, 188, 10, 181, 0, 180, 42, 6, 188, 10, 181, 0, 183, 42, 6, 188, 10, 181, 0, 186]
abbrev dktX7_init_19 : List UInt8 := dkwX7_init_19 ++ dktX7_init_20
def dkwX7_init_18 : List UInt8 := [181, 0, 168, 42, 16, 20, 188, 10, 181, 0, 171, 42, 6, 188, 10, 181, 0, 174, 42, 6, 188, 10]
abbrev dktX7_init_18 : List UInt8 := dkwX7_init_18 ++ dktX7_init_19
def dkwX7_init_17 : List UInt8 := [181, 0, 159, 42, 16, 20, 188, 10, 181, 0, 162, 42, 16, 20, 188, 10, 181, 0, 165, 42, 16, 20, 188, 10]
abbrev dktX7_init_17 : List UInt8 := dkwX7_init_17 ++ dktX7_init_18
def dkwX7_init_16 : List UInt8 := [181, 0, 150, 42, 16, 50, 188, 10, 181, 0, 153, 42, 16, 8, 188, 10, 181, 0, 156, 42, 16, 20, 188, 10]
abbrev dktX7_init_16 : List UInt8 := dkwX7_init_16 ++ dktX7_init_17
def dkwX7_init_15 : List UInt8 := [181, 0, 141, 42, 16, 50, 188, 10, 181, 0, 144, 42, 16, 50, 188, 10, 181, 0, 147, 42, 16, 50, 188, 10]
abbrev dktX7_init_15 : List UInt8 := dkwX7_init_15 ++ dktX7_init_16
def dkwX7_init_14 : List UInt8 := [181, 0, 132, 42, 16, 8, 188, 10, 181, 0, 135, 42, 16, 8, 188, 10, 181, 0, 138, 42, 16, 8, 188, 10]
abbrev dktX7_init_14 : List UInt8 := dkwX7_init_14 ++ dktX7_init_15
def dkwX7_init_13 : List UInt8 := [188, 10, 181, 0, 123, 42, 16, 24, 188, 10, 181, 0, 126, 42, 4, 181, 0, 129, 42, 16, 8, 188, 10]
abbrev dktX7_init_13 : List UInt8 := dkwX7_init_13 ++ dktX7_init_14
def dkwX7_init_12 : List UInt8 := [188, 10, 181, 0, 114, 42, 16, 8, 188, 10, 181, 0, 117, 42, 16, 24, 188, 10, 181, 0, 120, 42, 16, 24]
abbrev dktX7_init_12 : List UInt8 := dkwX7_init_12 ++ dktX7_init_13
def dkwX7_init_11 : List UInt8 := [42, 16, 100, 188, 10, 181, 0, 105, 42, 16, 100, 188, 10, 181, 0, 108, 42, 4, 181, 0, 111, 42, 16, 8]
abbrev dktX7_init_11 : List UInt8 := dkwX7_init_11 ++ dktX7_init_12
def dkwX7_init_10 : List UInt8 := [42, 16, 48, 188, 10, 181, 0, 96, 42, 16, 48, 188, 10, 181, 0, 99, 42, 16, 24, 188, 10, 181, 0, 102]
abbrev dktX7_init_10 : List UInt8 := dkwX7_init_10 ++ dktX7_init_11
def dkwX7_init_9 : List UInt8 := [17, 3, 32, 188, 10, 181, 0, 87, 42, 16, 40, 188, 10, 181, 0, 90, 42, 16, 8, 188, 10, 181, 0, 93]
abbrev dktX7_init_9 : List UInt8 := dkwX7_init_9 ++ dktX7_init_10
def dkwX7_init_8 : List UInt8 := [188, 10, 181, 0, 78, 42, 16, 24, 188, 10, 181, 0, 81, 42, 16, 24, 188, 10, 181, 0, 84, 42]
abbrev dktX7_init_8 : List UInt8 := dkwX7_init_8 ++ dktX7_init_9
def dkwX7_init_7 : List UInt8 := [181, 0, 69, 42, 17, 0, 192, 188, 10, 181, 0, 72, 42, 17, 0, 192, 188, 10, 181, 0, 75, 42, 16, 24]
abbrev dktX7_init_7 : List UInt8 := dkwX7_init_7 ++ dktX7_init_8
def dkwX7_init_6 : List UInt8 := [42, 16, 8, 188, 4, 181, 0, 62, 42, 16, 8, 188, 10, 181, 0, 66, 42, 17, 0, 192, 188, 10]
abbrev dktX7_init_6 : List UInt8 := dkwX7_init_6 ++ dktX7_init_7
def dkwX7_init_5 : List UInt8 := [42, 16, 8, 188, 10, 181, 0, 53, 42, 16, 8, 188, 10, 181, 0, 56, 42, 16, 8, 188, 10, 181, 0, 59]
abbrev dktX7_init_5 : List UInt8 := dkwX7_init_5 ++ dktX7_init_6
def dkwX7_init_4 : List UInt8 := [42, 16, 12, 188, 10, 181, 0, 44, 42, 16, 60, 188, 10, 181, 0, 47, 42, 16, 8, 188, 10, 181, 0, 50]
abbrev dktX7_init_4 : List UInt8 := dkwX7_init_4 ++ dktX7_init_5
def dkwX7_init_3 : List UInt8 := [181, 0, 31, 42, 16, 10, 188, 10, 181, 0, 34, 42, 16, 10, 188, 10, 181, 0, 37, 42, 4, 181, 0, 40]
abbrev dktX7_init_3 : List UInt8 := dkwX7_init_3 ++ dktX7_init_4
def dkwX7_init_2 : List UInt8 := [181, 0, 22, 42, 16, 10, 188, 10, 181, 0, 25, 42, 16, 10, 188, 10, 181, 0, 28, 42, 16, 10, 188, 10]
abbrev dktX7_init_2 : List UInt8 := dkwX7_init_2 ++ dktX7_init_3
def dkwX7_init_1 : List UInt8 := [17, 0, 200, 188, 10, 181, 0, 16, 42, 17, 0, 200, 188, 10, 181, 0, 19, 42, 16, 10, 188, 10]
abbrev dktX7_init_1 : List UInt8 := dkwX7_init_1 ++ dktX7_init_2
def dkwX7_init_0 : List UInt8 := [42, 183, 0, 1, 42, 16, 20, 188, 10, 181, 0, 7, 42, 17, 0, 200, 188, 10, 181, 0, 13, 42]
abbrev dktX7_init_0 : List UInt8 := dkwX7_init_0 ++ dktX7_init_1
theorem dksX7_init_0 : cX7_init.data.toList.drop 0 = dktX7_init_0 := by decide +kernel
theorem dksX7_init_1 : cX7_init.data.toList.drop 22 = dktX7_init_1 := dk_seg dksX7_init_0 22 rfl rfl
theorem dksX7_init_2 : cX7_init.data.toList.drop 44 = dktX7_init_2 := dk_seg dksX7_init_1 22 rfl rfl
theorem dksX7_init_3 : cX7_init.data.toList.drop 68 = dktX7_init_3 := dk_seg dksX7_init_2 24 rfl rfl
theorem dksX7_init_4 : cX7_init.data.toList.drop 92 = dktX7_init_4 := dk_seg dksX7_init_3 24 rfl rfl
theorem dksX7_init_5 : cX7_init.data.toList.drop 116 = dktX7_init_5 := dk_seg dksX7_init_4 24 rfl rfl
theorem dksX7_init_6 : cX7_init.data.toList.drop 140 = dktX7_init_6 := dk_seg dksX7_init_5 24 rfl rfl
theorem dksX7_init_7 : cX7_init.data.toList.drop 162 = dktX7_init_7 := dk_seg dksX7_init_6 22 rfl rfl
theorem dksX7_init_8 : cX7_init.data.toList.drop 186 = dktX7_init_8 := dk_seg dksX7_init_7 24 rfl rfl
theorem dksX7_init_9 : cX7_init.data.toList.drop 208 = dktX7_init_9 := dk_seg dksX7_init_8 22 rfl rfl
theorem dksX7_init_10 : cX7_init.data.toList.drop 232 = dktX7_init_10 := dk_seg dksX7_init_9 24 rfl rfl
theorem dksX7_init_11 : cX7_init.data.toList.drop 256 = dktX7_init_11 := dk_seg dksX7_init_10 24 rfl rfl
theorem dksX7_init_12 : cX7_init.data.toList.drop 280 = dktX7_init_12 := dk_seg dksX7_init_11 24 rfl rfl
theorem dksX7_init_13 : cX7_init.data.toList.drop 304 = dktX7_init_13 := dk_seg dksX7_init_12 24 rfl rfl
theorem dksX7_init_14 : cX7_init.data.toList.drop 327 = dktX7_init_14 := dk_seg dksX7_init_13 23 rfl rfl
theorem dksX7_init_15 : cX7_init.data.toList.drop 351 = dktX7_init_15 := dk_seg dksX7_init_14 24 rfl rfl
theorem dksX7_init_16 : cX7_init.data.toList.drop 375 = dktX7_init_16 := dk_seg dksX7_init_15 24 rfl rfl
theorem dksX7_init_17 : cX7_init.data.toList.drop 399 = dktX7_init_17 := dk_seg dksX7_init_16 24 rfl rfl
theorem dksX7_init_18 : cX7_init.data.toList.drop 423 = dktX7_init_18 := dk_seg dksX7_init_17 24 rfl rfl
theorem dksX7_init_19 : cX7_init.data.toList.drop 445 = dktX7_init_19 := dk_seg dksX7_init_18 22 rfl rfl
theorem dksX7_init_20 : cX7_init.data.toList.drop 469 = dktX7_init_20 := dk_seg dksX7_init_19 24 rfl rfl
theorem dksX7_init_21 : cX7_init.data.toList.drop 492 = dktX7_init_21 := dk_seg dksX7_init_20 23 rfl rfl
theorem dksX7_init_22 : cX7_init.data.toList.drop 514 = dktX7_init_22 := dk_seg dksX7_init_21 22 rfl rfl
theorem dksX7_init_23 : cX7_init.data.toList.drop 538 = dktX7_init_23 := dk_seg dksX7_init_22 24 rfl rfl
theorem dksX7_init_24 : cX7_init.data.toList.drop 561 = dktX7_init_24 := dk_seg dksX7_init_23 23 rfl rfl
theorem dX7_init_0 : decode cX7_init 0 = .ok (.aload_n 0, 1) := dk_42 (dk_at dksX7_init_0 0 rfl rfl)
theorem dX7_init_1 : decode cX7_init 1 = .ok (.invokespecial 1, 3) := dk_183 0 1 (dk_at dksX7_init_0 1 rfl rfl)
theorem dX7_init_4 : decode cX7_init 4 = .ok (.aload_n 0, 1) := dk_42 (dk_at dksX7_init_0 4 rfl rfl)
theorem dX7_init_5 : decode cX7_init 5 = .ok (.bipush 20, 2) := dk_16 20 (dk_at dksX7_init_0 5 rfl rfl)
theorem dX7_init_7 : decode cX7_init 7 = .ok (.newarray .int, 2) := dk_188_10 (dk_at dksX7_init_0 7 rfl rfl)
theorem dX7_init_9 : decode cX7_init 9 = .ok (.putfield 7, 3) := dk_181 0 7 (dk_at dksX7_init_0 9 rfl rfl)
theorem dX7_init_12 : decode cX7_init 12 = .ok (.aload_n 0, 1) := dk_42 (dk_at dksX7_init_0 12 rfl rfl)
theorem dX7_init_13 : decode cX7_init 13 = .ok (.sipush 200, 3) := dk_17 0 200 (dk_at dksX7_init_0 13 rfl rfl)
theorem dX7_init_16 : decode cX7_init 16 = .ok (.newarray .int, 2) := dk_188_10 (dk_at dksX7_init_0 16 rfl rfl)
theorem dX7_init_18 : decode cX7_init 18 = .ok (.putfield 13, 3) := dk_181 0 13 (dk_at dksX7_init_0 18 rfl rfl)
theorem dX7_init_21 : decode cX7_init 21 = .ok (.aload_n 0, 1) := dk_42 (dk_at dksX7_init_0 21 rfl rfl)
theorem dX7_init_22 : decode cX7_init 22 = .ok (.sipush 200, 3) := dk_17 0 200 (dk_at dksX7_init_1 0 rfl rfl)
theorem dX7_init_25 : decode cX7_init 25 = .ok (.newarray .int, 2) := dk_188_10 (dk_at dksX7_init_1 3 rfl rfl)
theorem dX7_init_27 : decode cX7_init 27 = .ok (.putfield 16, 3) := dk_181 0 16 (dk_at dksX7_init_1 5 rfl rfl)
theorem dX7_init_30 : decode cX7_init 30 = .ok (.aload_n 0, 1) := dk_42 (dk_at dksX7_init_1 8 rfl rfl)
theorem dX7_init_31 : decode cX7_init 31 = .ok (.sipush 200, 3) := dk_17 0 200 (dk_at dksX7_init_1 9 rfl rfl)
theorem dX7_init_34 : decode cX7_init 34 = .ok (.newarray .int, 2) := dk_188_10 (dk_at dksX7_init_1 12 rfl rfl)
theorem dX7_init_36 : decode cX7_init 36 = .ok (.putfield 19, 3) := dk_181 0 19 (dk_at dksX7_init_1 14 rfl rfl)
theorem dX7_init_39 : decode cX7_init 39 = .ok (.aload_n 0, 1) := dk_42 (dk_at dksX7_init_1 17 rfl rfl)
theorem dX7_init_40 : decode cX7_init 40 = .ok (.bipush 10, 2) := dk_16 10 (dk_at dksX7_init_1 18 rfl rfl)
theorem dX7_init_42 : decode cX7_init 42 = .ok (.newarray .int, 2) := dk_188_10 (dk_at dksX7_init_1 20 rfl rfl)
theorem dX7_init_44 : decode cX7_init 44 = .ok (.putfield 22, 3) := dk_181 0 22 (dk_at dksX7_init_2 0 rfl rfl)
theorem dX7_init_47 : decode cX7_init 47 = .ok (.aload_n 0, 1) := dk_42 (dk_at dksX7_init_2 3 rfl rfl)
theorem dX7_init_48 : decode cX7_init 48 = .ok (.bipush 10, 2) := dk_16 10 (dk_at dksX7_init_2 4 rfl rfl)
theorem dX7_init_50 : decode cX7_init 50 = .ok (.newarray .int, 2) := dk_188_10 (dk_at dksX7_init_2 6 rfl rfl)
theorem dX7_init_52 : decode cX7_init 52 = .ok (.putfield 25, 3) := dk_181 0 25 (dk_at dksX7_init_2 8 rfl rfl)
theorem dX7_init_55 : decode cX7_init 55 = .ok (.aload_n 0, 1) := dk_42 (dk_at dksX7_init_2 11 rfl rfl)
theorem dX7_init_56 : decode cX7_init 56 = .ok (.bipush 10, 2) := dk_16 10 (dk_at dksX7_init_2 12 rfl rfl)
theorem dX7_init_58 : decode cX7_init 58 = .ok (.newarray .int, 2) := dk_188_10 (dk_at dksX7_init_2 14 rfl rfl)
theorem dX7_init_60 : decode cX7_init 60 = .ok (.putfield 28, 3) := dk_181 0 28 (dk_at dksX7_init_2 16 rfl rfl)
theorem dX7_init_63 : decode cX7_init 63 = .ok (.aload_n 0, 1) := dk_42 (dk_at dksX7_init_2 19 rfl rfl)
theorem dX7_init_64 : decode cX7_init 64 = .ok (.bipush 10, 2) := dk_16 10 (dk_at dksX7_init_2 20 rfl rfl)
theorem dX7_init_66 : decode cX7_init 66 = .ok (.newarray .int, 2) := dk_188_10 (dk_at dksX7_init_2 22 rfl rfl)
theorem dX7_init_68 : decode cX7_init 68 = .ok (.putfield 31, 3) := dk_181 0 31 (dk_at dksX7_init_3 0 rfl rfl)
theorem dX7_init_71 : decode cX7_init 71 = .ok (.aload_n 0, 1) := dk_42 (dk_at dksX7_init_3 3 rfl rfl)
theorem dX7_init_72 : decode cX7_init 72 = .ok (.bipush 10, 2) := dk_16 10 (dk_at dksX7_init_3 4 rfl rfl)
theorem dX7_init_74 : decode cX7_init 74 = .ok (.newarray .int, 2) := dk_188_10 (dk_at dksX7_init_3 6 rfl rfl)
theorem dX7_init_76 : decode cX7_init 76 = .ok (.putfield 34, 3) := dk_181 0 34 (dk_at dksX7_init_3 8 rfl rfl)
theorem dX7_init_79 : decode cX7_init 79 = .ok (.aload_n 0, 1) := dk_42 (dk_at dksX7_init_3 11 rfl rfl)
theorem dX7_init_80 : decode cX7_init 80 = .ok (.bipush 10, 2) := dk_16 10 (dk_at dksX7_init_3 12 rfl rfl)
theorem dX7_init_82 : decode cX7_init 82 = .ok (.newarray .int, 2) := dk_188_10 (dk_at dksX7_init_3 14 rfl rfl)
theorem dX7_init_84 : decode cX7_init 84 = .ok (.putfield 37, 3) := dk_181 0 37 (dk_at dksX7_init_3 16 rfl rfl)
theorem dX7_init_87 : decode cX7_init 87 = .ok (.aload_n 0, 1) := dk_42 (dk_at dksX7_init_3 19 rfl rfl)
theorem dX7_init_88 : decode cX7_init 88 = .ok (.iconst 1, 1) := dk_4 (dk_at dksX7_init_3 20 rfl rfl)
theorem dX7_init_89 : decode cX7_init 89 = .ok (.putfield 40, 3) := dk_181 0 40 (dk_at dksX7_init_3 21 rfl rfl)
theorem dX7_init_92 : decode cX7_init 92 = .ok (.aload_n 0, 1) := dk_42 (dk_at dksX7_init_4 0 rfl rfl)
theorem dX7_init_93 : decode cX7_init 93 = .ok (.bipush 12, 2) := dk_16 12 (dk_at dksX7_init_4 1 rfl rfl)
theorem dX7_init_95 : decode cX7_init 95 = .ok (.newarray .int, 2) := dk_188_10 (dk_at dksX7_init_4 3 rfl rfl)
theorem dX7_init_97 : decode cX7_init 97 = .ok (.putfield 44, 3) := dk_181 0 44 (dk_at dksX7_init_4 5 rfl rfl)
theorem dX7_init_100 : decode cX7_init 100 = .ok (.aload_n 0, 1) := dk_42 (dk_at dksX7_init_4 8 rfl rfl)
theorem dX7_init_101 : decode cX7_init 101 = .ok (.bipush 60, 2) := dk_16 60 (dk_at dksX7_init_4 9 rfl rfl)
theorem dX7_init_103 : decode cX7_init 103 = .ok (.newarray .int, 2) := dk_188_10 (dk_at dksX7_init_4 11 rfl rfl)
theorem dX7_init_105 : decode cX7_init 105 = .ok (.putfield 47, 3) := dk_181 0 47 (dk_at dksX7_init_4 13 rfl rfl)
theorem dX7_init_108 : decode cX7_init 108 = .ok (.aload_n 0, 1) := dk_42 (dk_at dksX7_init_4 16 rfl rfl)
theorem dX7_init_109 : decode cX7_init 109 = .ok (.bipush 8, 2) := dk_16 8 (dk_at dksX7_init_4 17 rfl rfl)
theorem dX7_init_111 : decode cX7_init 111 = .ok (.newarray .int, 2) := dk_188_10 (dk_at dksX7_init_4 19 rfl rfl)
theorem dX7_init_113 : decode cX7_init 113 = .ok (.putfield 50, 3) := dk_181 0 50 (dk_at dksX7_init_4 21 rfl rfl)
theorem dX7_init_116 : decode cX7_init 116 = .ok (.aload_n 0, 1) := dk_42 (dk_at dksX7_init_5 0 rfl rfl)
theorem dX7_init_117 : decode cX7_init 117 = .ok (.bipush 8, 2) := dk_16 8 (dk_at dksX7_init_5 1 rfl rfl)
theorem dX7_init_119 : decode cX7_init 119 = .ok (.newarray .int, 2) := dk_188_10 (dk_at dksX7_init_5 3 rfl rfl)
theorem dX7_init_121 : decode cX7_init 121 = .ok (.putfield 53, 3) := dk_181 0 53 (dk_at dksX7_init_5 5 rfl rfl)
theorem dX7_init_124 : decode cX7_init 124 = .ok (.aload_n 0, 1) := dk_42 (dk_at dksX7_init_5 8 rfl rfl)
theorem dX7_init_125 : decode cX7_init 125 = .ok (.bipush 8, 2) := dk_16 8 (dk_at dksX7_init_5 9 rfl rfl)
theorem dX7_init_127 : decode cX7_init 127 = .ok (.newarray .int, 2) := dk_188_10 (dk_at dksX7_init_5 11 rfl rfl)
theorem dX7_init_129 : decode cX7_init 129 = .ok (.putfield 56, 3) := dk_181 0 56 (dk_at dksX7_init_5 13 rfl rfl)
theorem dX7_init_132 : decode cX7_init 132 = .ok (.aload_n 0, 1) := dk_42 (dk_at dksX7_init_5 16 rfl rfl)
theorem dX7_init_133 : decode cX7_init 133 = .ok (.bipush 8, 2) := dk_16 8 (dk_at dksX7_init_5 17 rfl rfl)
theorem dX7_init_135 : decode cX7_init 135 = .ok (.newarray .int, 2) := dk_188_10 (dk_at dksX7_init_5 19 rfl rfl)
theorem dX7_init_137 : decode cX7_init 137 = .ok (.putfield 59, 3) := dk_181 0 59 (dk_at dksX7_init_5 21 rfl rfl)
theorem dX7_init_140 : decode cX7_init 140 = .ok (.aload_n 0, 1) := dk_42 (dk_at dksX7_init_6 0 rfl rfl)
theorem dX7_init_141 : decode cX7_init 141 = .ok (.bipush 8, 2) := dk_16 8 (dk_at dksX7_init_6 1 rfl rfl)
theorem dX7_init_143 : decode cX7_init 143 = .ok (.newarray .boolean, 2) := dk_188_4 (dk_at dksX7_init_6 3 rfl rfl)
theorem dX7_init_145 : decode cX7_init 145 = .ok (.putfield 62, 3) := dk_181 0 62 (dk_at dksX7_init_6 5 rfl rfl)
theorem dX7_init_148 : decode cX7_init 148 = .ok (.aload_n 0, 1) := dk_42 (dk_at dksX7_init_6 8 rfl rfl)
theorem dX7_init_149 : decode cX7_init 149 = .ok (.bipush 8, 2) := dk_16 8 (dk_at dksX7_init_6 9 rfl rfl)
theorem dX7_init_151 : decode cX7_init 151 = .ok (.newarray .int, 2) := dk_188_10 (dk_at dksX7_init_6 11 rfl rfl)
theorem dX7_init_153 : decode cX7_init 153 = .ok (.putfield 66, 3) := dk_181 0 66 (dk_at dksX7_init_6 13 rfl rfl)
theorem dX7_init_156 : decode cX7_init 156 = .ok (.aload_n 0, 1) := dk_42 (dk_at dksX7_init_6 16 rfl rfl)
theorem dX7_init_157 : decode cX7_init 157 = .ok (.sipush 192, 3) := dk_17 0 192 (dk_at dksX7_init_6 17 rfl rfl)
theorem dX7_init_160 : decode cX7_init 160 = .ok (.newarray .int, 2) := dk_188_10 (dk_at dksX7_init_6 20 rfl rfl)
theorem dX7_init_162 : decode cX7_init 162 = .ok (.putfield 69, 3) := dk_181 0 69 (dk_at dksX7_init_7 0 rfl rfl)
theorem dX7_init_165 : decode cX7_init 165 = .ok (.aload_n 0, 1) := dk_42 (dk_at dksX7_init_7 3 rfl rfl)
theorem dX7_init_166 : decode cX7_init 166 = .ok (.sipush 192, 3) := dk_17 0 192 (dk_at dksX7_init_7 4 rfl rfl)
theorem dX7_init_169 : decode cX7_init 169 = .ok (.newarray .int, 2) := dk_188_10 (dk_at dksX7_init_7 7 rfl rfl)
theorem dX7_init_171 : decode cX7_init 171 = .ok (.putfield 72, 3) := dk_181 0 72 (dk_at dksX7_init_7 9 rfl rfl)
theorem dX7_init_174 : decode cX7_init 174 = .ok (.aload_n 0, 1) := dk_42 (dk_at dksX7_init_7 12 rfl rfl)
theorem dX7_init_175 : decode cX7_init 175 = .ok (.sipush 192, 3) := dk_17 0 192 (dk_at dksX7_init_7 13 rfl rfl)
theorem dX7_init_178 : decode cX7_init 178 = .ok (.newarray .int, 2) := dk_188_10 (dk_at dksX7_init_7 16 rfl rfl)
theorem dX7_init_180 : decode cX7_init 180 = .ok (.putfield 75, 3) := dk_181 0 75 (dk_at dksX7_init_7 18 rfl rfl)
theorem dX7_init_183 : decode cX7_init 183 = .ok (.aload_n 0, 1) := dk_42 (dk_at dksX7_init_7 21 rfl rfl)
theorem dX7_init_184 : decode cX7_init 184 = .ok (.bipush 24, 2) := dk_16 24 (dk_at dksX7_init_7 22 rfl rfl)
theorem dX7_init_186 : decode cX7_init 186 = .ok (.newarray .int, 2) := dk_188_10 (dk_at dksX7_init_8 0 rfl rfl)
theorem dX7_init_188 : decode cX7_init 188 = .ok (.putfield 78, 3) := dk_181 0 78 (dk_at dksX7_init_8 2 rfl rfl)
theorem dX7_init_191 : decode cX7_init 191 = .ok (.aload_n 0, 1) := dk_42 (dk_at dksX7_init_8 5 rfl rfl)
theorem dX7_init_192 : decode cX7_init 192 = .ok (.bipush 24, 2) := dk_16 24 (dk_at dksX7_init_8 6 rfl rfl)
theorem dX7_init_194 : decode cX7_init 194 = .ok (.newarray .int, 2) := dk_188_10 (dk_at dksX7_init_8 8 rfl rfl)
theorem dX7_init_196 : decode cX7_init 196 = .ok (.putfield 81, 3) := dk_181 0 81 (dk_at dksX7_init_8 10 rfl rfl)
theorem dX7_init_199 : decode cX7_init 199 = .ok (.aload_n 0, 1) := dk_42 (dk_at dksX7_init_8 13 rfl rfl)
theorem dX7_init_200 : decode cX7_init 200 = .ok (.bipush 24, 2) := dk_16 24 (dk_at dksX7_init_8 14 rfl rfl)
theorem dX7_init_202 : decode cX7_init 202 = .ok (.newarray .int, 2) := dk_188_10 (dk_at dksX7_init_8 16 rfl rfl)
theorem dX7_init_204 : decode cX7_init 204 = .ok (.putfield 84, 3) := dk_181 0 84 (dk_at dksX7_init_8 18 rfl rfl)
theorem dX7_init_207 : decode cX7_init 207 = .ok (.aload_n 0, 1) := dk_42 (dk_at dksX7_init_8 21 rfl rfl)
theorem dX7_init_208 : decode cX7_init 208 = .ok (.sipush 800, 3) := dk_17 3 32 (dk_at dksX7_init_9 0 rfl rfl)
theorem dX7_init_211 : decode cX7_init 211 = .ok (.newarray .int, 2) := dk_188_10 (dk_at dksX7_init_9 3 rfl rfl)
theorem dX7_init_213 : decode cX7_init 213 = .ok (.putfield 87, 3) := dk_181 0 87 (dk_at dksX7_init_9 5 rfl rfl)
theorem dX7_init_216 : decode cX7_init 216 = .ok (.aload_n 0, 1) := dk_42 (dk_at dksX7_init_9 8 rfl rfl)
theorem dX7_init_217 : decode cX7_init 217 = .ok (.bipush 40, 2) := dk_16 40 (dk_at dksX7_init_9 9 rfl rfl)
theorem dX7_init_219 : decode cX7_init 219 = .ok (.newarray .int, 2) := dk_188_10 (dk_at dksX7_init_9 11 rfl rfl)
theorem dX7_init_221 : decode cX7_init 221 = .ok (.putfield 90, 3) := dk_181 0 90 (dk_at dksX7_init_9 13 rfl rfl)
theorem dX7_init_224 : decode cX7_init 224 = .ok (.aload_n 0, 1) := dk_42 (dk_at dksX7_init_9 16 rfl rfl)
theorem dX7_init_225 : decode cX7_init 225 = .ok (.bipush 8, 2) := dk_16 8 (dk_at dksX7_init_9 17 rfl rfl)
theorem dX7_init_227 : decode cX7_init 227 = .ok (.newarray .int, 2) := dk_188_10 (dk_at dksX7_init_9 19 rfl rfl)
theorem dX7_init_229 : decode cX7_init 229 = .ok (.putfield 93, 3) := dk_181 0 93 (dk_at dksX7_init_9 21 rfl rfl)
theorem dX7_init_232 : decode cX7_init 232 = .ok (.aload_n 0, 1) := dk_42 (dk_at dksX7_init_10 0 rfl rfl)
theorem dX7_init_233 : decode cX7_init 233 = .ok (.bipush 48, 2) := dk_16 48 (dk_at dksX7_init_10 1 rfl rfl)
theorem dX7_init_235 : decode cX7_init 235 = .ok (.newarray .int, 2) := dk_188_10 (dk_at dksX7_init_10 3 rfl rfl)
theorem dX7_init_237 : decode cX7_init 237 = .ok (.putfield 96, 3) := dk_181 0 96 (dk_at dksX7_init_10 5 rfl rfl)
theorem dX7_init_240 : decode cX7_init 240 = .ok (.aload_n 0, 1) := dk_42 (dk_at dksX7_init_10 8 rfl rfl)
theorem dX7_init_241 : decode cX7_init 241 = .ok (.bipush 48, 2) := dk_16 48 (dk_at dksX7_init_10 9 rfl rfl)
theorem dX7_init_243 : decode cX7_init 243 = .ok (.newarray .int, 2) := dk_188_10 (dk_at dksX7_init_10 11 rfl rfl)
theorem dX7_init_245 : decode cX7_init 245 = .ok (.putfield 99, 3) := dk_181 0 99 (dk_at dksX7_init_10 13 rfl rfl)
theorem dX7_init_248 : decode cX7_init 248 = .ok (.aload_n 0, 1) := dk_42 (dk_at dksX7_init_10 16 rfl rfl)
theorem dX7_init_249 : decode cX7_init 249 = .ok (.bipush 24, 2) := dk_16 24 (dk_at dksX7_init_10 17 rfl rfl)
theorem dX7_init_251 : decode cX7_init 251 = .ok (.newarray .int, 2) := dk_188_10 (dk_at dksX7_init_10 19 rfl rfl)
theorem dX7_init_253 : decode cX7_init 253 = .ok (.putfield 102, 3) := dk_181 0 102 (dk_at dksX7_init_10 21 rfl rfl)
theorem dX7_init_256 : decode cX7_init 256 = .ok (.aload_n 0, 1) := dk_42 (dk_at dksX7_init_11 0 rfl rfl)
theorem dX7_init_257 : decode cX7_init 257 = .ok (.bipush 100, 2) := dk_16 100 (dk_at dksX7_init_11 1 rfl rfl)
theorem dX7_init_259 : decode cX7_init 259 = .ok (.newarray .int, 2) := dk_188_10 (dk_at dksX7_init_11 3 rfl rfl)
theorem dX7_init_261 : decode cX7_init 261 = .ok (.putfield 105, 3) := dk_181 0 105 (dk_at dksX7_init_11 5 rfl rfl)
theorem dX7_init_264 : decode cX7_init 264 = .ok (.aload_n 0, 1) := dk_42 (dk_at dksX7_init_11 8 rfl rfl)
theorem dX7_init_265 : decode cX7_init 265 = .ok (.bipush 100, 2) := dk_16 100 (dk_at dksX7_init_11 9 rfl rfl)
theorem dX7_init_267 : decode cX7_init 267 = .ok (.newarray .int, 2) := dk_188_10 (dk_at dksX7_init_11 11 rfl rfl)
theorem dX7_init_269 : decode cX7_init 269 = .ok (.putfield 108, 3) := dk_181 0 108 (dk_at dksX7_init_11 13 rfl rfl)
theorem dX7_init_272 : decode cX7_init 272 = .ok (.aload_n 0, 1) := dk_42 (dk_at dksX7_init_11 16 rfl rfl)
theorem dX7_init_273 : decode cX7_init 273 = .ok (.iconst 1, 1) := dk_4 (dk_at dksX7_init_11 17 rfl rfl)
theorem dX7_init_274 : decode cX7_init 274 = .ok (.putfield 111, 3) := dk_181 0 111 (dk_at dksX7_init_11 18 rfl rfl)
theorem dX7_init_277 : decode cX7_init 277 = .ok (.aload_n 0, 1) := dk_42 (dk_at dksX7_init_11 21 rfl rfl)
theorem dX7_init_278 : decode cX7_init 278 = .ok (.bipush 8, 2) := dk_16 8 (dk_at dksX7_init_11 22 rfl rfl)
theorem dX7_init_280 : decode cX7_init 280 = .ok (.newarray .int, 2) := dk_188_10 (dk_at dksX7_init_12 0 rfl rfl)
theorem dX7_init_282 : decode cX7_init 282 = .ok (.putfield 114, 3) := dk_181 0 114 (dk_at dksX7_init_12 2 rfl rfl)
theorem dX7_init_285 : decode cX7_init 285 = .ok (.aload_n 0, 1) := dk_42 (dk_at dksX7_init_12 5 rfl rfl)
theorem dX7_init_286 : decode cX7_init 286 = .ok (.bipush 8, 2) := dk_16 8 (dk_at dksX7_init_12 6 rfl rfl)
theorem dX7_init_288 : decode cX7_init 288 = .ok (.newarray .int, 2) := dk_188_10 (dk_at dksX7_init_12 8 rfl rfl)
theorem dX7_init_290 : decode cX7_init 290 = .ok (.putfield 117, 3) := dk_181 0 117 (dk_at dksX7_init_12 10 rfl rfl)
theorem dX7_init_293 : decode cX7_init 293 = .ok (.aload_n 0, 1) := dk_42 (dk_at dksX7_init_12 13 rfl rfl)
theorem dX7_init_294 : decode cX7_init 294 = .ok (.bipush 24, 2) := dk_16 24 (dk_at dksX7_init_12 14 rfl rfl)
theorem dX7_init_296 : decode cX7_init 296 = .ok (.newarray .int, 2) := dk_188_10 (dk_at dksX7_init_12 16 rfl rfl)
theorem dX7_init_298 : decode cX7_init 298 = .ok (.putfield 120, 3) := dk_181 0 120 (dk_at dksX7_init_12 18 rfl rfl)
theorem dX7_init_301 : decode cX7_init 301 = .ok (.aload_n 0, 1) := dk_42 (dk_at dksX7_init_12 21 rfl rfl)
theorem dX7_init_302 : decode cX7_init 302 = .ok (.bipush 24, 2) := dk_16 24 (dk_at dksX7_init_12 22 rfl rfl)
theorem dX7_init_304 : decode cX7_init 304 = .ok (.newarray .int, 2) := dk_188_10 (dk_at dksX7_init_13 0 rfl rfl)
theorem dX7_init_306 : decode cX7_init 306 = .ok (.putfield 123, 3) := dk_181 0 123 (dk_at dksX7_init_13 2 rfl rfl)
theorem dX7_init_309 : decode cX7_init 309 = .ok (.aload_n 0, 1) := dk_42 (dk_at dksX7_init_13 5 rfl rfl)
theorem dX7_init_310 : decode cX7_init 310 = .ok (.bipush 24, 2) := dk_16 24 (dk_at dksX7_init_13 6 rfl rfl)
theorem dX7_init_312 : decode cX7_init 312 = .ok (.newarray .int, 2) := dk_188_10 (dk_at dksX7_init_13 8 rfl rfl)
theorem dX7_init_314 : decode cX7_init 314 = .ok (.putfield 126, 3) := dk_181 0 126 (dk_at dksX7_init_13 10 rfl rfl)
theorem dX7_init_317 : decode cX7_init 317 = .ok (.aload_n 0, 1) := dk_42 (dk_at dksX7_init_13 13 rfl rfl)
theorem dX7_init_318 : decode cX7_init 318 = .ok (.iconst 1, 1) := dk_4 (dk_at dksX7_init_13 14 rfl rfl)
theorem dX7_init_319 : decode cX7_init 319 = .ok (.putfield 129, 3) := dk_181 0 129 (dk_at dksX7_init_13 15 rfl rfl)
theorem dX7_init_322 : decode cX7_init 322 = .ok (.aload_n 0, 1) := dk_42 (dk_at dksX7_init_13 18 rfl rfl)
theorem dX7_init_323 : decode cX7_init 323 = .ok (.bipush 8, 2) := dk_16 8 (dk_at dksX7_init_13 19 rfl rfl)
theorem dX7_init_325 : decode cX7_init 325 = .ok (.newarray .int, 2) := dk_188_10 (dk_at dksX7_init_13 21 rfl rfl)
theorem dX7_init_327 : decode cX7_init 327 = .ok (.putfield 132, 3) := dk_181 0 132 (dk_at dksX7_init_14 0 rfl rfl)
theorem dX7_init_330 : decode cX7_init 330 = .ok (.aload_n 0, 1) := dk_42 (dk_at dksX7_init_14 3 rfl rfl)
theorem dX7_init_331 : decode cX7_init 331 = .ok (.bipush 8, 2) := dk_16 8 (dk_at dksX7_init_14 4 rfl rfl)
theorem dX7_init_333 : decode cX7_init 333 = .ok (.newarray .int, 2) := dk_188_10 (dk_at dksX7_init_14 6 rfl rfl)
theorem dX7_init_335 : decode cX7_init 335 = .ok (.putfield 135, 3) := dk_181 0 135 (dk_at dksX7_init_14 8 rfl rfl)
theorem dX7_init_338 : decode cX7_init 338 = .ok (.aload_n 0, 1) := dk_42 (dk_at dksX7_init_14 11 rfl rfl)
theorem dX7_init_339 : decode cX7_init 339 = .ok (.bipush 8, 2) := dk_16 8 (dk_at dksX7_init_14 12 rfl rfl)
theorem dX7_init_341 : decode cX7_init 341 = .ok (.newarray .int, 2) := dk_188_10 (dk_at dksX7_init_14 14 rfl rfl)
theorem dX7_init_343 : decode cX7_init 343 = .ok (.putfield 138, 3) := dk_181 0 138 (dk_at dksX7_init_14 16 rfl rfl)
theorem dX7_init_346 : decode cX7_init 346 = .ok (.aload_n 0, 1) := dk_42 (dk_at dksX7_init_14 19 rfl rfl)
theorem dX7_init_347 : decode cX7_init 347 = .ok (.bipush 8, 2) := dk_16 8 (dk_at dksX7_init_14 20 rfl rfl)
theorem dX7_init_349 : decode cX7_init 349 = .ok (.newarray .int, 2) := dk_188_10 (dk_at dksX7_init_14 22 rfl rfl)
theorem dX7_init_351 : decode cX7_init 351 = .ok (.putfield 141, 3) := dk_181 0 141 (dk_at dksX7_init_15 0 rfl rfl)
theorem dX7_init_354 : decode cX7_init 354 = .ok (.aload_n 0, 1) := dk_42 (dk_at dksX7_init_15 3 rfl rfl)
theorem dX7_init_355 : decode cX7_init 355 = .ok (.bipush 50, 2) := dk_16 50 (dk_at dksX7_init_15 4 rfl rfl)
theorem dX7_init_357 : decode cX7_init 357 = .ok (.newarray .int, 2) := dk_188_10 (dk_at dksX7_init_15 6 rfl rfl)
theorem dX7_init_359 : decode cX7_init 359 = .ok (.putfield 144, 3) := dk_181 0 144 (dk_at dksX7_init_15 8 rfl rfl)
theorem dX7_init_362 : decode cX7_init 362 = .ok (.aload_n 0, 1) := dk_42 (dk_at dksX7_init_15 11 rfl rfl)
theorem dX7_init_363 : decode cX7_init 363 = .ok (.bipush 50, 2) := dk_16 50 (dk_at dksX7_init_15 12 rfl rfl)
theorem dX7_init_365 : decode cX7_init 365 = .ok (.newarray .int, 2) := dk_188_10 (dk_at dksX7_init_15 14 rfl rfl)
theorem dX7_init_367 : decode cX7_init 367 = .ok (.putfield 147, 3) := dk_181 0 147 (dk_at dksX7_init_15 16 rfl rfl)
theorem dX7_init_370 : decode cX7_init 370 = .ok (.aload_n 0, 1) := dk_42 (dk_at dksX7_init_15 19 rfl rfl)
theorem dX7_init_371 : decode cX7_init 371 = .ok (.bipush 50, 2) := dk_16 50 (dk_at dksX7_init_15 20 rfl rfl)
theorem dX7_init_373 : decode cX7_init 373 = .ok (.newarray .int, 2) := dk_188_10 (dk_at dksX7_init_15 22 rfl rfl)
theorem dX7_init_375 : decode cX7_init 375 = .ok (.putfield 150, 3) := dk_181 0 150 (dk_at dksX7_init_16 0 rfl rfl)
theorem dX7_init_378 : decode cX7_init 378 = .ok (.aload_n 0, 1) := dk_42 (dk_at dksX7_init_16 3 rfl rfl)
theorem dX7_init_379 : decode cX7_init 379 = .ok (.bipush 50, 2) := dk_16 50 (dk_at dksX7_init_16 4 rfl rfl)
theorem dX7_init_381 : decode cX7_init 381 = .ok (.newarray .int, 2) := dk_188_10 (dk_at dksX7_init_16 6 rfl rfl)
theorem dX7_init_383 : decode cX7_init 383 = .ok (.putfield 153, 3) := dk_181 0 153 (dk_at dksX7_init_16 8 rfl rfl)
theorem dX7_init_386 : decode cX7_init 386 = .ok (.aload_n 0, 1) := dk_42 (dk_at dksX7_init_16 11 rfl rfl)
theorem dX7_init_387 : decode cX7_init 387 = .ok (.bipush 8, 2) := dk_16 8 (dk_at dksX7_init_16 12 rfl rfl)
theorem dX7_init_389 : decode cX7_init 389 = .ok (.newarray .int, 2) := dk_188_10 (dk_at dksX7_init_16 14 rfl rfl)
theorem dX7_init_391 : decode cX7_init 391 = .ok (.putfield 156, 3) := dk_181 0 156 (dk_at dksX7_init_16 16 rfl rfl)
theorem dX7_init_394 : decode cX7_init 394 = .ok (.aload_n 0, 1) := dk_42 (dk_at dksX7_init_16 19 rfl rfl)
theorem dX7_init_395 : decode cX7_init 395 = .ok (.bipush 20, 2) := dk_16 20 (dk_at dksX7_init_16 20 rfl rfl)
theorem dX7_init_397 : decode cX7_init 397 = .ok (.newarray .int, 2) := dk_188_10 (dk_at dksX7_init_16 22 rfl rfl)
theorem dX7_init_399 : decode cX7_init 399 = .ok (.putfield 159, 3) := dk_181 0 159 (dk_at dksX7_init_17 0 rfl rfl)
theorem dX7_init_402 : decode cX7_init 402 = .ok (.aload_n 0, 1) := dk_42 (dk_at dksX7_init_17 3 rfl rfl)
theorem dX7_init_403 : decode cX7_init 403 = .ok (.bipush 20, 2) := dk_16 20 (dk_at dksX7_init_17 4 rfl rfl)
theorem dX7_init_405 : decode cX7_init 405 = .ok (.newarray .int, 2) := dk_188_10 (dk_at dksX7_init_17 6 rfl rfl)
theorem dX7_init_407 : decode cX7_init 407 = .ok (.putfield 162, 3) := dk_181 0 162 (dk_at dksX7_init_17 8 rfl rfl)
theorem dX7_init_410 : decode cX7_init 410 = .ok (.aload_n 0, 1) := dk_42 (dk_at dksX7_init_17 11 rfl rfl)
theorem dX7_init_411 : decode cX7_init 411 = .ok (.bipush 20, 2) := dk_16 20 (dk_at dksX7_init_17 12 rfl rfl)
theorem dX7_init_413 : decode cX7_init 413 = .ok (.newarray .int, 2) := dk_188_10 (dk_at dksX7_init_17 14 rfl rfl)
theorem dX7_init_415 : decode cX7_init 415 = .ok (.putfield 165, 3) := dk_181 0 165 (dk_at dksX7_init_17 16 rfl rfl)
theorem dX7_init_418 : decode cX7_init 418 = .ok (.aload_n 0, 1) := dk_42 (dk_at dksX7_init_17 19 rfl rfl)
theorem dX7_init_419 : decode cX7_init 419 = .ok (.bipush 20, 2) := dk_16 20 (dk_at dksX7_init_17 20 rfl rfl)
theorem dX7_init_421 : decode cX7_init 421 = .ok (.newarray .int, 2) := dk_188_10 (dk_at dksX7_init_17 22 rfl rfl)
theorem dX7_init_423 : decode cX7_init 423 = .ok (.putfield 168, 3) := dk_181 0 168 (dk_at dksX7_init_18 0 rfl rfl)
theorem dX7_init_426 : decode cX7_init 426 = .ok (.aload_n 0, 1) := dk_42 (dk_at dksX7_init_18 3 rfl rfl)
theorem dX7_init_427 : decode cX7_init 427 = .ok (.bipush 20, 2) := dk_16 20 (dk_at dksX7_init_18 4 rfl rfl)
theorem dX7_init_429 : decode cX7_init 429 = .ok (.newarray .int, 2) := dk_188_10 (dk_at dksX7_init_18 6 rfl rfl)
theorem dX7_init_431 : decode cX7_init 431 = .ok (.putfield 171, 3) := dk_181 0 171 (dk_at dksX7_init_18 8 rfl rfl)
theorem dX7_init_434 : decode cX7_init 434 = .ok (.aload_n 0, 1) := dk_42 (dk_at dksX7_init_18 11 rfl rfl)
theorem dX7_init_435 : decode cX7_init 435 = .ok (.iconst 3, 1) := dk_6 (dk_at dksX7_init_18 12 rfl rfl)
theorem dX7_init_436 : decode cX7_init 436 = .ok (.newarray .int, 2) := dk_188_10 (dk_at dksX7_init_18 13 rfl rfl)
theorem dX7_init_438 : decode cX7_init 438 = .ok (.putfield 174, 3) := dk_181 0 174 (dk_at dksX7_init_18 15 rfl rfl)
theorem dX7_init_441 : decode cX7_init 441 = .ok (.aload_n 0, 1) := dk_42 (dk_at dksX7_init_18 18 rfl rfl)
theorem dX7_init_442 : decode cX7_init 442 = .ok (.iconst 3, 1) := dk_6 (dk_at dksX7_init_18 19 rfl rfl)
theorem dX7_init_443 : decode cX7_init 443 = .ok (.newarray .int, 2) := dk_188_10 (dk_at dksX7_init_18 20 rfl rfl)
theorem dX7_init_445 : decode cX7_init 445 = .ok (.putfield 177, 3) := dk_181 0 177 (dk_at dksX7_init_19 0 rfl rfl)
theorem dX7_init_448 : decode cX7_init 448 = .ok (.aload_n 0, 1) := dk_42 (dk_at dksX7_init_19 3 rfl rfl)
theorem dX7_init_449 : decode cX7_init 449 = .ok (.iconst 3, 1) := dk_6 (dk_at dksX7_init_19 4 rfl rfl)
theorem dX7_init_450 : decode cX7_init 450 = .ok (.newarray .int, 2) := dk_188_10 (dk_at dksX7_init_19 5 rfl rfl)
theorem dX7_init_452 : decode cX7_init 452 = .ok (.putfield 180, 3) := dk_181 0 180 (dk_at dksX7_init_19 7 rfl rfl)
theorem dX7_init_455 : decode cX7_init 455 = .ok (.aload_n 0, 1) := dk_42 (dk_at dksX7_init_19 10 rfl rfl)
theorem dX7_init_456 : decode cX7_init 456 = .ok (.iconst 3, 1) := dk_6 (dk_at dksX7_init_19 11 rfl rfl)
theorem dX7_init_457 : decode cX7_init 457 = .ok (.newarray .int, 2) := dk_188_10 (dk_at dksX7_init_19 12 rfl rfl)
theorem dX7_init_459 : decode cX7_init 459 = .ok (.putfield 183, 3) := dk_181 0 183 (dk_at dksX7_init_19 14 rfl rfl)
theorem dX7_init_462 : decode cX7_init 462 = .ok (.aload_n 0, 1) := dk_42 (dk_at dksX7_init_19 17 rfl rfl)
theorem dX7_init_463 : decode cX7_init 463 = .ok (.iconst 3, 1) := dk_6 (dk_at dksX7_init_19 18 rfl rfl)
theorem dX7_init_464 : decode cX7_init 464 = .ok (.newarray .int, 2) := dk_188_10 (dk_at dksX7_init_19 19 rfl rfl)
theorem dX7_init_466 : decode cX7_init 466 = .ok (.putfield 186, 3) := dk_181 0 186 (dk_at dksX7_init_19 21 rfl rfl)
theorem dX7_init_469 : decode cX7_init 469 = .ok (.iconst 0, 1) := dk_3 (dk_at dksX7_init_20 0 rfl rfl)
theorem dX7_init_470 : decode cX7_init 470 = .ok (.istore_n 1, 1) := dk_60 (dk_at dksX7_init_20 1 rfl rfl)
theorem dX7_init_471 : decode cX7_init 471 = .ok (.iload_n 1, 1) := dk_27 (dk_at dksX7_init_20 2 rfl rfl)
theorem dX7_init_472 : decode cX7_init 472 = .ok (.bipush 8, 2) := dk_16 8 (dk_at dksX7_init_20 3 rfl rfl)
theorem dX7_init_474 : decode cX7_init 474 = .ok (.if_icmp .ge 30, 3) := dk_162 0 30 (dk_at dksX7_init_20 5 rfl rfl)
theorem dX7_init_477 : decode cX7_init 477 = .ok (.aload_n 0, 1) := dk_42 (dk_at dksX7_init_20 8 rfl rfl)
theorem dX7_init_478 : decode cX7_init 478 = .ok (.getfield 50, 3) := dk_180 0 50 (dk_at dksX7_init_20 9 rfl rfl)
theorem dX7_init_481 : decode cX7_init 481 = .ok (.iload_n 1, 1) := dk_27 (dk_at dksX7_init_20 12 rfl rfl)
theorem dX7_init_482 : decode cX7_init 482 = .ok (.iconst (-1), 1) := dk_2 (dk_at dksX7_init_20 13 rfl rfl)
theorem dX7_init_483 : decode cX7_init 483 = .ok (.iastore, 1) := dk_79 (dk_at dksX7_init_20 14 rfl rfl)
theorem dX7_init_484 : decode cX7_init 484 = .ok (.aload_n 0, 1) := dk_42 (dk_at dksX7_init_20 15 rfl rfl)
theorem dX7_init_485 : decode cX7_init 485 = .ok (.getfield 132, 3) := dk_180 0 132 (dk_at dksX7_init_20 16 rfl rfl)
theorem dX7_init_488 : decode cX7_init 488 = .ok (.iload_n 1, 1) := dk_27 (dk_at dksX7_init_20 19 rfl rfl)
theorem dX7_init_489 : decode cX7_init 489 = .ok (.iconst (-1), 1) := dk_2 (dk_at dksX7_init_20 20 rfl rfl)
theorem dX7_init_490 : decode cX7_init 490 = .ok (.iastore, 1) := dk_79 (dk_at dksX7_init_20 21 rfl rfl)
theorem dX7_init_491 : decode cX7_init 491 = .ok (.aload_n 0, 1) := dk_42 (dk_at dksX7_init_20 22 rfl rfl)
theorem dX7_init_492 : decode cX7_init 492 = .ok (.getfield 114, 3) := dk_180 0 114 (dk_at dksX7_init_21 0 rfl rfl)
theorem dX7_init_495 : decode cX7_init 495 = .ok (.iload_n 1, 1) := dk_27 (dk_at dksX7_init_21 3 rfl rfl)
theorem dX7_init_496 : decode cX7_init 496 = .ok (.iconst (-1), 1) := dk_2 (dk_at dksX7_init_21 4 rfl rfl)
theorem dX7_init_497 : decode cX7_init 497 = .ok (.iastore, 1) := dk_79 (dk_at dksX7_init_21 5 rfl rfl)
theorem dX7_init_498 : decode cX7_init 498 = .ok (.iinc 1 1, 3) := dk_132 1 1 (dk_at dksX7_init_21 6 rfl rfl)
theorem dX7_init_501 : decode cX7_init 501 = .ok (.goto (-30), 3) := dk_167 255 226 (dk_at dksX7_init_21 9 rfl rfl)
theorem dX7_init_504 : decode cX7_init 504 = .ok (.iconst 0, 1) := dk_3 (dk_at dksX7_init_21 12 rfl rfl)
theorem dX7_init_505 : decode cX7_init 505 = .ok (.istore_n 1, 1) := dk_60 (dk_at dksX7_init_21 13 rfl rfl)
theorem dX7_init_506 : decode cX7_init 506 = .ok (.iload_n 1, 1) := dk_27 (dk_at dksX7_init_21 14 rfl rfl)
theorem dX7_init_507 : decode cX7_init 507 = .ok (.sipush 800, 3) := dk_17 3 32 (dk_at dksX7_init_21 15 rfl rfl)
theorem dX7_init_510 : decode cX7_init 510 = .ok (.if_icmp .ge 46, 3) := dk_162 0 46 (dk_at dksX7_init_21 18 rfl rfl)
theorem dX7_init_513 : decode cX7_init 513 = .ok (.aload_n 0, 1) := dk_42 (dk_at dksX7_init_21 21 rfl rfl)
theorem dX7_init_514 : decode cX7_init 514 = .ok (.getfield 87, 3) := dk_180 0 87 (dk_at dksX7_init_22 0 rfl rfl)
theorem dX7_init_517 : decode cX7_init 517 = .ok (.iload_n 1, 1) := dk_27 (dk_at dksX7_init_22 3 rfl rfl)
theorem dX7_init_518 : decode cX7_init 518 = .ok (.iconst (-1), 1) := dk_2 (dk_at dksX7_init_22 4 rfl rfl)
theorem dX7_init_519 : decode cX7_init 519 = .ok (.iastore, 1) := dk_79 (dk_at dksX7_init_22 5 rfl rfl)
theorem dX7_init_520 : decode cX7_init 520 = .ok (.aload_n 0, 1) := dk_42 (dk_at dksX7_init_22 6 rfl rfl)
theorem dX7_init_521 : decode cX7_init 521 = .ok (.getfield 105, 3) := dk_180 0 105 (dk_at dksX7_init_22 7 rfl rfl)
theorem dX7_init_524 : decode cX7_init 524 = .ok (.iload_n 1, 1) := dk_27 (dk_at dksX7_init_22 10 rfl rfl)
theorem dX7_init_525 : decode cX7_init 525 = .ok (.bipush 100, 2) := dk_16 100 (dk_at dksX7_init_22 11 rfl rfl)
theorem dX7_init_527 : decode cX7_init 527 = .ok (.irem, 1) := dk_112 (dk_at dksX7_init_22 13 rfl rfl)
theorem dX7_init_528 : decode cX7_init 528 = .ok (.iconst (-1), 1) := dk_2 (dk_at dksX7_init_22 14 rfl rfl)
theorem dX7_init_529 : decode cX7_init 529 = .ok (.iastore, 1) := dk_79 (dk_at dksX7_init_22 15 rfl rfl)
theorem dX7_init_530 : decode cX7_init 530 = .ok (.aload_n 0, 1) := dk_42 (dk_at dksX7_init_22 16 rfl rfl)
theorem dX7_init_531 : decode cX7_init 531 = .ok (.getfield 90, 3) := dk_180 0 90 (dk_at dksX7_init_22 17 rfl rfl)
theorem dX7_init_534 : decode cX7_init 534 = .ok (.iload_n 1, 1) := dk_27 (dk_at dksX7_init_22 20 rfl rfl)
theorem dX7_init_535 : decode cX7_init 535 = .ok (.bipush 40, 2) := dk_16 40 (dk_at dksX7_init_22 21 rfl rfl)
theorem dX7_init_537 : decode cX7_init 537 = .ok (.irem, 1) := dk_112 (dk_at dksX7_init_22 23 rfl rfl)
theorem dX7_init_538 : decode cX7_init 538 = .ok (.iconst (-1), 1) := dk_2 (dk_at dksX7_init_23 0 rfl rfl)
theorem dX7_init_539 : decode cX7_init 539 = .ok (.iastore, 1) := dk_79 (dk_at dksX7_init_23 1 rfl rfl)
theorem dX7_init_540 : decode cX7_init 540 = .ok (.aload_n 0, 1) := dk_42 (dk_at dksX7_init_23 2 rfl rfl)
theorem dX7_init_541 : decode cX7_init 541 = .ok (.getfield 144, 3) := dk_180 0 144 (dk_at dksX7_init_23 3 rfl rfl)
theorem dX7_init_544 : decode cX7_init 544 = .ok (.iload_n 1, 1) := dk_27 (dk_at dksX7_init_23 6 rfl rfl)
theorem dX7_init_545 : decode cX7_init 545 = .ok (.bipush 50, 2) := dk_16 50 (dk_at dksX7_init_23 7 rfl rfl)
theorem dX7_init_547 : decode cX7_init 547 = .ok (.irem, 1) := dk_112 (dk_at dksX7_init_23 9 rfl rfl)
theorem dX7_init_548 : decode cX7_init 548 = .ok (.iconst (-1), 1) := dk_2 (dk_at dksX7_init_23 10 rfl rfl)
theorem dX7_init_549 : decode cX7_init 549 = .ok (.iastore, 1) := dk_79 (dk_at dksX7_init_23 11 rfl rfl)
theorem dX7_init_550 : decode cX7_init 550 = .ok (.iinc 1 1, 3) := dk_132 1 1 (dk_at dksX7_init_23 12 rfl rfl)
theorem dX7_init_553 : decode cX7_init 553 = .ok (.goto (-47), 3) := dk_167 255 209 (dk_at dksX7_init_23 15 rfl rfl)
theorem dX7_init_556 : decode cX7_init 556 = .ok (.aload_n 0, 1) := dk_42 (dk_at dksX7_init_23 18 rfl rfl)
theorem dX7_init_557 : decode cX7_init 557 = .ok (.getfield 135, 3) := dk_180 0 135 (dk_at dksX7_init_23 19 rfl rfl)
theorem dX7_init_560 : decode cX7_init 560 = .ok (.iconst 0, 1) := dk_3 (dk_at dksX7_init_23 22 rfl rfl)
theorem dX7_init_561 : decode cX7_init 561 = .ok (.bipush 50, 2) := dk_16 50 (dk_at dksX7_init_24 0 rfl rfl)
theorem dX7_init_563 : decode cX7_init 563 = .ok (.iastore, 1) := dk_79 (dk_at dksX7_init_24 2 rfl rfl)
theorem dX7_init_564 : decode cX7_init 564 = .ok (.aload_n 0, 1) := dk_42 (dk_at dksX7_init_24 3 rfl rfl)
theorem dX7_init_565 : decode cX7_init 565 = .ok (.getfield 138, 3) := dk_180 0 138 (dk_at dksX7_init_24 4 rfl rfl)
theorem dX7_init_568 : decode cX7_init 568 = .ok (.iconst 0, 1) := dk_3 (dk_at dksX7_init_24 7 rfl rfl)
theorem dX7_init_569 : decode cX7_init 569 = .ok (.sipush 9999, 3) := dk_17 39 15 (dk_at dksX7_init_24 8 rfl rfl)
theorem dX7_init_572 : decode cX7_init 572 = .ok (.iastore, 1) := dk_79 (dk_at dksX7_init_24 11 rfl rfl)
theorem dX7_init_573 : decode cX7_init 573 = .ok (.aload_n 0, 1) := dk_42 (dk_at dksX7_init_24 12 rfl rfl)
theorem dX7_init_574 : decode cX7_init 574 = .ok (.getfield 141, 3) := dk_180 0 141 (dk_at dksX7_init_24 13 rfl rfl)
theorem dX7_init_577 : decode cX7_init 577 = .ok (.iconst 0, 1) := dk_3 (dk_at dksX7_init_24 16 rfl rfl)
theorem dX7_init_578 : decode cX7_init 578 = .ok (.iconst 1, 1) := dk_4 (dk_at dksX7_init_24 17 rfl rfl)
theorem dX7_init_579 : decode cX7_init 579 = .ok (.iastore, 1) := dk_79 (dk_at dksX7_init_24 18 rfl rfl)
theorem dX7_init_580 : decode cX7_init 580 = .ok (.return_, 1) := dk_177 (dk_at dksX7_init_24 19 rfl rfl)
abbrev cX7_thrown : ByteArray := prog_17_method_2_code
def yX7_thrown : MethodName := ⟨RX7, "thrown", "()I"⟩
theorem dX7_thrown_0 : decode cX7_thrown 0 = .ok (.aload_n 0, 1) := by decide +kernel
theorem dX7_thrown_1 : decode cX7_thrown 1 = .ok (.getfield 189, 3) := by decide +kernel
theorem dX7_thrown_4 : decode cX7_thrown 4 = .ok (.ireturn, 1) := by decide +kernel
abbrev cX7_entry : ByteArray := prog_17_method_15_code
def yX7_entry : MethodName := ⟨RX7, "entry", "(III)I"⟩
def dkwX7_entry_7 : List UInt8 := [180, 0, 225, 172]
abbrev dktX7_entry_7 : List UInt8 := dkwX7_entry_7 ++ []
def dkwX7_entry_6 : List UInt8 := [180, 0, 225, 160, 0, 12, 42, 180, 0, 225, 4, 96, 167, 0, 7, 42, 180, 0, 225, 181, 0, 225, 42]
abbrev dktX7_entry_6 : List UInt8 := dkwX7_entry_6 ++ dktX7_entry_7
def dkwX7_entry_5 : List UInt8 := [21, 4, 27, 79, 42, 180, 0, 25, 21, 4, 28, 79, 42, 180, 0, 28, 21, 4, 29, 79, 42, 21, 4, 42]
abbrev dktX7_entry_5 : List UInt8 := dkwX7_entry_5 ++ dktX7_entry_6
def dkwX7_entry_4 : List UInt8 := [132, 5, 1, 167, 255, 224, 21, 4, 16, 10, 160, 0, 9, 42, 5, 182, 0, 228, 172, 42, 180, 0, 22]
abbrev dktX7_entry_4 : List UInt8 := dkwX7_entry_4 ++ dktX7_entry_5
def dkwX7_entry_3 : List UInt8 := [162, 0, 29, 42, 180, 0, 22, 21, 5, 46, 27, 160, 0, 8, 21, 5, 167, 0, 5, 21, 4, 54, 4]
abbrev dktX7_entry_3 : List UInt8 := dkwX7_entry_3 ++ dktX7_entry_4
def dkwX7_entry_2 : List UInt8 := [180, 0, 189, 158, 0, 5, 3, 172, 42, 180, 0, 225, 54, 4, 3, 54, 5, 21, 5, 42, 180, 0, 225]
abbrev dktX7_entry_2 : List UInt8 := dkwX7_entry_2 ++ dktX7_entry_3
def dkwX7_entry_1 : List UInt8 := [17, 3, 231, 167, 0, 4, 3, 184, 0, 192, 154, 0, 7, 4, 167, 0, 4, 3, 181, 0, 189, 42]
abbrev dktX7_entry_1 : List UInt8 := dkwX7_entry_1 ++ dktX7_entry_2
def dkwX7_entry_0 : List UInt8 := [42, 27, 184, 0, 221, 153, 0, 32, 28, 4, 7, 184, 0, 192, 153, 0, 23, 29, 3, 28, 4, 160, 0, 9]
abbrev dktX7_entry_0 : List UInt8 := dkwX7_entry_0 ++ dktX7_entry_1
theorem dksX7_entry_0 : cX7_entry.data.toList.drop 0 = dktX7_entry_0 := by decide +kernel
theorem dksX7_entry_1 : cX7_entry.data.toList.drop 24 = dktX7_entry_1 := dk_seg dksX7_entry_0 24 rfl rfl
theorem dksX7_entry_2 : cX7_entry.data.toList.drop 46 = dktX7_entry_2 := dk_seg dksX7_entry_1 22 rfl rfl
theorem dksX7_entry_3 : cX7_entry.data.toList.drop 69 = dktX7_entry_3 := dk_seg dksX7_entry_2 23 rfl rfl
theorem dksX7_entry_4 : cX7_entry.data.toList.drop 92 = dktX7_entry_4 := dk_seg dksX7_entry_3 23 rfl rfl
theorem dksX7_entry_5 : cX7_entry.data.toList.drop 115 = dktX7_entry_5 := dk_seg dksX7_entry_4 23 rfl rfl
theorem dksX7_entry_6 : cX7_entry.data.toList.drop 139 = dktX7_entry_6 := dk_seg dksX7_entry_5 24 rfl rfl
theorem dksX7_entry_7 : cX7_entry.data.toList.drop 162 = dktX7_entry_7 := dk_seg dksX7_entry_6 23 rfl rfl
theorem dX7_entry_0 : decode cX7_entry 0 = .ok (.aload_n 0, 1) := dk_42 (dk_at dksX7_entry_0 0 rfl rfl)
theorem dX7_entry_1 : decode cX7_entry 1 = .ok (.iload_n 1, 1) := dk_27 (dk_at dksX7_entry_0 1 rfl rfl)
theorem dX7_entry_2 : decode cX7_entry 2 = .ok (.invokestatic 221, 3) := dk_184 0 221 (dk_at dksX7_entry_0 2 rfl rfl)
theorem dX7_entry_5 : decode cX7_entry 5 = .ok (.ifCond .eq 32, 3) := dk_153 0 32 (dk_at dksX7_entry_0 5 rfl rfl)
theorem dX7_entry_8 : decode cX7_entry 8 = .ok (.iload_n 2, 1) := dk_28 (dk_at dksX7_entry_0 8 rfl rfl)
theorem dX7_entry_9 : decode cX7_entry 9 = .ok (.iconst 1, 1) := dk_4 (dk_at dksX7_entry_0 9 rfl rfl)
theorem dX7_entry_10 : decode cX7_entry 10 = .ok (.iconst 4, 1) := dk_7 (dk_at dksX7_entry_0 10 rfl rfl)
theorem dX7_entry_11 : decode cX7_entry 11 = .ok (.invokestatic 192, 3) := dk_184 0 192 (dk_at dksX7_entry_0 11 rfl rfl)
theorem dX7_entry_14 : decode cX7_entry 14 = .ok (.ifCond .eq 23, 3) := dk_153 0 23 (dk_at dksX7_entry_0 14 rfl rfl)
theorem dX7_entry_17 : decode cX7_entry 17 = .ok (.iload_n 3, 1) := dk_29 (dk_at dksX7_entry_0 17 rfl rfl)
theorem dX7_entry_18 : decode cX7_entry 18 = .ok (.iconst 0, 1) := dk_3 (dk_at dksX7_entry_0 18 rfl rfl)
theorem dX7_entry_19 : decode cX7_entry 19 = .ok (.iload_n 2, 1) := dk_28 (dk_at dksX7_entry_0 19 rfl rfl)
theorem dX7_entry_20 : decode cX7_entry 20 = .ok (.iconst 1, 1) := dk_4 (dk_at dksX7_entry_0 20 rfl rfl)
theorem dX7_entry_21 : decode cX7_entry 21 = .ok (.if_icmp .ne 9, 3) := dk_160 0 9 (dk_at dksX7_entry_0 21 rfl rfl)
theorem dX7_entry_24 : decode cX7_entry 24 = .ok (.sipush 999, 3) := dk_17 3 231 (dk_at dksX7_entry_1 0 rfl rfl)
theorem dX7_entry_27 : decode cX7_entry 27 = .ok (.goto 4, 3) := dk_167 0 4 (dk_at dksX7_entry_1 3 rfl rfl)
theorem dX7_entry_30 : decode cX7_entry 30 = .ok (.iconst 0, 1) := dk_3 (dk_at dksX7_entry_1 6 rfl rfl)
theorem dX7_entry_31 : decode cX7_entry 31 = .ok (.invokestatic 192, 3) := dk_184 0 192 (dk_at dksX7_entry_1 7 rfl rfl)
theorem dX7_entry_34 : decode cX7_entry 34 = .ok (.ifCond .ne 7, 3) := dk_154 0 7 (dk_at dksX7_entry_1 10 rfl rfl)
theorem dX7_entry_37 : decode cX7_entry 37 = .ok (.iconst 1, 1) := dk_4 (dk_at dksX7_entry_1 13 rfl rfl)
theorem dX7_entry_38 : decode cX7_entry 38 = .ok (.goto 4, 3) := dk_167 0 4 (dk_at dksX7_entry_1 14 rfl rfl)
theorem dX7_entry_41 : decode cX7_entry 41 = .ok (.iconst 0, 1) := dk_3 (dk_at dksX7_entry_1 17 rfl rfl)
theorem dX7_entry_42 : decode cX7_entry 42 = .ok (.putfield 189, 3) := dk_181 0 189 (dk_at dksX7_entry_1 18 rfl rfl)
theorem dX7_entry_45 : decode cX7_entry 45 = .ok (.aload_n 0, 1) := dk_42 (dk_at dksX7_entry_1 21 rfl rfl)
theorem dX7_entry_46 : decode cX7_entry 46 = .ok (.getfield 189, 3) := dk_180 0 189 (dk_at dksX7_entry_2 0 rfl rfl)
theorem dX7_entry_49 : decode cX7_entry 49 = .ok (.ifCond .le 5, 3) := dk_158 0 5 (dk_at dksX7_entry_2 3 rfl rfl)
theorem dX7_entry_52 : decode cX7_entry 52 = .ok (.iconst 0, 1) := dk_3 (dk_at dksX7_entry_2 6 rfl rfl)
theorem dX7_entry_53 : decode cX7_entry 53 = .ok (.ireturn, 1) := dk_172 (dk_at dksX7_entry_2 7 rfl rfl)
theorem dX7_entry_54 : decode cX7_entry 54 = .ok (.aload_n 0, 1) := dk_42 (dk_at dksX7_entry_2 8 rfl rfl)
theorem dX7_entry_55 : decode cX7_entry 55 = .ok (.getfield 225, 3) := dk_180 0 225 (dk_at dksX7_entry_2 9 rfl rfl)
theorem dX7_entry_58 : decode cX7_entry 58 = .ok (.istore 4, 2) := dk_54 4 (dk_at dksX7_entry_2 12 rfl rfl)
theorem dX7_entry_60 : decode cX7_entry 60 = .ok (.iconst 0, 1) := dk_3 (dk_at dksX7_entry_2 14 rfl rfl)
theorem dX7_entry_61 : decode cX7_entry 61 = .ok (.istore 5, 2) := dk_54 5 (dk_at dksX7_entry_2 15 rfl rfl)
theorem dX7_entry_63 : decode cX7_entry 63 = .ok (.iload 5, 2) := dk_21 5 (dk_at dksX7_entry_2 17 rfl rfl)
theorem dX7_entry_65 : decode cX7_entry 65 = .ok (.aload_n 0, 1) := dk_42 (dk_at dksX7_entry_2 19 rfl rfl)
theorem dX7_entry_66 : decode cX7_entry 66 = .ok (.getfield 225, 3) := dk_180 0 225 (dk_at dksX7_entry_2 20 rfl rfl)
theorem dX7_entry_69 : decode cX7_entry 69 = .ok (.if_icmp .ge 29, 3) := dk_162 0 29 (dk_at dksX7_entry_3 0 rfl rfl)
theorem dX7_entry_72 : decode cX7_entry 72 = .ok (.aload_n 0, 1) := dk_42 (dk_at dksX7_entry_3 3 rfl rfl)
theorem dX7_entry_73 : decode cX7_entry 73 = .ok (.getfield 22, 3) := dk_180 0 22 (dk_at dksX7_entry_3 4 rfl rfl)
theorem dX7_entry_76 : decode cX7_entry 76 = .ok (.iload 5, 2) := dk_21 5 (dk_at dksX7_entry_3 7 rfl rfl)
theorem dX7_entry_78 : decode cX7_entry 78 = .ok (.iaload, 1) := dk_46 (dk_at dksX7_entry_3 9 rfl rfl)
theorem dX7_entry_79 : decode cX7_entry 79 = .ok (.iload_n 1, 1) := dk_27 (dk_at dksX7_entry_3 10 rfl rfl)
theorem dX7_entry_80 : decode cX7_entry 80 = .ok (.if_icmp .ne 8, 3) := dk_160 0 8 (dk_at dksX7_entry_3 11 rfl rfl)
theorem dX7_entry_83 : decode cX7_entry 83 = .ok (.iload 5, 2) := dk_21 5 (dk_at dksX7_entry_3 14 rfl rfl)
theorem dX7_entry_85 : decode cX7_entry 85 = .ok (.goto 5, 3) := dk_167 0 5 (dk_at dksX7_entry_3 16 rfl rfl)
theorem dX7_entry_88 : decode cX7_entry 88 = .ok (.iload 4, 2) := dk_21 4 (dk_at dksX7_entry_3 19 rfl rfl)
theorem dX7_entry_90 : decode cX7_entry 90 = .ok (.istore 4, 2) := dk_54 4 (dk_at dksX7_entry_3 21 rfl rfl)
theorem dX7_entry_92 : decode cX7_entry 92 = .ok (.iinc 5 1, 3) := dk_132 5 1 (dk_at dksX7_entry_4 0 rfl rfl)
theorem dX7_entry_95 : decode cX7_entry 95 = .ok (.goto (-32), 3) := dk_167 255 224 (dk_at dksX7_entry_4 3 rfl rfl)
theorem dX7_entry_98 : decode cX7_entry 98 = .ok (.iload 4, 2) := dk_21 4 (dk_at dksX7_entry_4 6 rfl rfl)
theorem dX7_entry_100 : decode cX7_entry 100 = .ok (.bipush 10, 2) := dk_16 10 (dk_at dksX7_entry_4 8 rfl rfl)
theorem dX7_entry_102 : decode cX7_entry 102 = .ok (.if_icmp .ne 9, 3) := dk_160 0 9 (dk_at dksX7_entry_4 10 rfl rfl)
theorem dX7_entry_105 : decode cX7_entry 105 = .ok (.aload_n 0, 1) := dk_42 (dk_at dksX7_entry_4 13 rfl rfl)
theorem dX7_entry_106 : decode cX7_entry 106 = .ok (.iconst 2, 1) := dk_5 (dk_at dksX7_entry_4 14 rfl rfl)
theorem dX7_entry_107 : decode cX7_entry 107 = .ok (.invokevirtual 228, 3) := dk_182 0 228 (dk_at dksX7_entry_4 15 rfl rfl)
theorem dX7_entry_110 : decode cX7_entry 110 = .ok (.ireturn, 1) := dk_172 (dk_at dksX7_entry_4 18 rfl rfl)
theorem dX7_entry_111 : decode cX7_entry 111 = .ok (.aload_n 0, 1) := dk_42 (dk_at dksX7_entry_4 19 rfl rfl)
theorem dX7_entry_112 : decode cX7_entry 112 = .ok (.getfield 22, 3) := dk_180 0 22 (dk_at dksX7_entry_4 20 rfl rfl)
theorem dX7_entry_115 : decode cX7_entry 115 = .ok (.iload 4, 2) := dk_21 4 (dk_at dksX7_entry_5 0 rfl rfl)
theorem dX7_entry_117 : decode cX7_entry 117 = .ok (.iload_n 1, 1) := dk_27 (dk_at dksX7_entry_5 2 rfl rfl)
theorem dX7_entry_118 : decode cX7_entry 118 = .ok (.iastore, 1) := dk_79 (dk_at dksX7_entry_5 3 rfl rfl)
theorem dX7_entry_119 : decode cX7_entry 119 = .ok (.aload_n 0, 1) := dk_42 (dk_at dksX7_entry_5 4 rfl rfl)
theorem dX7_entry_120 : decode cX7_entry 120 = .ok (.getfield 25, 3) := dk_180 0 25 (dk_at dksX7_entry_5 5 rfl rfl)
theorem dX7_entry_123 : decode cX7_entry 123 = .ok (.iload 4, 2) := dk_21 4 (dk_at dksX7_entry_5 8 rfl rfl)
theorem dX7_entry_125 : decode cX7_entry 125 = .ok (.iload_n 2, 1) := dk_28 (dk_at dksX7_entry_5 10 rfl rfl)
theorem dX7_entry_126 : decode cX7_entry 126 = .ok (.iastore, 1) := dk_79 (dk_at dksX7_entry_5 11 rfl rfl)
theorem dX7_entry_127 : decode cX7_entry 127 = .ok (.aload_n 0, 1) := dk_42 (dk_at dksX7_entry_5 12 rfl rfl)
theorem dX7_entry_128 : decode cX7_entry 128 = .ok (.getfield 28, 3) := dk_180 0 28 (dk_at dksX7_entry_5 13 rfl rfl)
theorem dX7_entry_131 : decode cX7_entry 131 = .ok (.iload 4, 2) := dk_21 4 (dk_at dksX7_entry_5 16 rfl rfl)
theorem dX7_entry_133 : decode cX7_entry 133 = .ok (.iload_n 3, 1) := dk_29 (dk_at dksX7_entry_5 18 rfl rfl)
theorem dX7_entry_134 : decode cX7_entry 134 = .ok (.iastore, 1) := dk_79 (dk_at dksX7_entry_5 19 rfl rfl)
theorem dX7_entry_135 : decode cX7_entry 135 = .ok (.aload_n 0, 1) := dk_42 (dk_at dksX7_entry_5 20 rfl rfl)
theorem dX7_entry_136 : decode cX7_entry 136 = .ok (.iload 4, 2) := dk_21 4 (dk_at dksX7_entry_5 21 rfl rfl)
theorem dX7_entry_138 : decode cX7_entry 138 = .ok (.aload_n 0, 1) := dk_42 (dk_at dksX7_entry_5 23 rfl rfl)
theorem dX7_entry_139 : decode cX7_entry 139 = .ok (.getfield 225, 3) := dk_180 0 225 (dk_at dksX7_entry_6 0 rfl rfl)
theorem dX7_entry_142 : decode cX7_entry 142 = .ok (.if_icmp .ne 12, 3) := dk_160 0 12 (dk_at dksX7_entry_6 3 rfl rfl)
theorem dX7_entry_145 : decode cX7_entry 145 = .ok (.aload_n 0, 1) := dk_42 (dk_at dksX7_entry_6 6 rfl rfl)
theorem dX7_entry_146 : decode cX7_entry 146 = .ok (.getfield 225, 3) := dk_180 0 225 (dk_at dksX7_entry_6 7 rfl rfl)
theorem dX7_entry_149 : decode cX7_entry 149 = .ok (.iconst 1, 1) := dk_4 (dk_at dksX7_entry_6 10 rfl rfl)
theorem dX7_entry_150 : decode cX7_entry 150 = .ok (.iadd, 1) := dk_96 (dk_at dksX7_entry_6 11 rfl rfl)
theorem dX7_entry_151 : decode cX7_entry 151 = .ok (.goto 7, 3) := dk_167 0 7 (dk_at dksX7_entry_6 12 rfl rfl)
theorem dX7_entry_154 : decode cX7_entry 154 = .ok (.aload_n 0, 1) := dk_42 (dk_at dksX7_entry_6 15 rfl rfl)
theorem dX7_entry_155 : decode cX7_entry 155 = .ok (.getfield 225, 3) := dk_180 0 225 (dk_at dksX7_entry_6 16 rfl rfl)
theorem dX7_entry_158 : decode cX7_entry 158 = .ok (.putfield 225, 3) := dk_181 0 225 (dk_at dksX7_entry_6 19 rfl rfl)
theorem dX7_entry_161 : decode cX7_entry 161 = .ok (.aload_n 0, 1) := dk_42 (dk_at dksX7_entry_6 22 rfl rfl)
theorem dX7_entry_162 : decode cX7_entry 162 = .ok (.getfield 225, 3) := dk_180 0 225 (dk_at dksX7_entry_7 0 rfl rfl)
theorem dX7_entry_165 : decode cX7_entry 165 = .ok (.ireturn, 1) := dk_172 (dk_at dksX7_entry_7 3 rfl rfl)
abbrev cX7_isPath : ByteArray := prog_17_method_5_code
def yX7_isPath : MethodName := ⟨RX7, "isPath", "(I)Z"⟩
def dkwX7_isPath_1 : List UInt8 := [26, 16, 10, 108, 16, 10, 112, 158, 0, 7, 4, 167, 0, 4, 3, 172]
abbrev dktX7_isPath_1 : List UInt8 := dkwX7_isPath_1 ++ []
def dkwX7_isPath_0 : List UInt8 := [26, 4, 17, 3, 231, 184, 0, 192, 153, 0, 30, 26, 16, 10, 112, 158, 0, 23, 26, 16, 10, 161, 0, 13]
abbrev dktX7_isPath_0 : List UInt8 := dkwX7_isPath_0 ++ dktX7_isPath_1
theorem dksX7_isPath_0 : cX7_isPath.data.toList.drop 0 = dktX7_isPath_0 := by decide +kernel
theorem dksX7_isPath_1 : cX7_isPath.data.toList.drop 24 = dktX7_isPath_1 := dk_seg dksX7_isPath_0 24 rfl rfl
theorem dX7_isPath_0 : decode cX7_isPath 0 = .ok (.iload_n 0, 1) := dk_26 (dk_at dksX7_isPath_0 0 rfl rfl)
theorem dX7_isPath_1 : decode cX7_isPath 1 = .ok (.iconst 1, 1) := dk_4 (dk_at dksX7_isPath_0 1 rfl rfl)
theorem dX7_isPath_2 : decode cX7_isPath 2 = .ok (.sipush 999, 3) := dk_17 3 231 (dk_at dksX7_isPath_0 2 rfl rfl)
theorem dX7_isPath_5 : decode cX7_isPath 5 = .ok (.invokestatic 192, 3) := dk_184 0 192 (dk_at dksX7_isPath_0 5 rfl rfl)
theorem dX7_isPath_8 : decode cX7_isPath 8 = .ok (.ifCond .eq 30, 3) := dk_153 0 30 (dk_at dksX7_isPath_0 8 rfl rfl)
theorem dX7_isPath_11 : decode cX7_isPath 11 = .ok (.iload_n 0, 1) := dk_26 (dk_at dksX7_isPath_0 11 rfl rfl)
theorem dX7_isPath_12 : decode cX7_isPath 12 = .ok (.bipush 10, 2) := dk_16 10 (dk_at dksX7_isPath_0 12 rfl rfl)
theorem dX7_isPath_14 : decode cX7_isPath 14 = .ok (.irem, 1) := dk_112 (dk_at dksX7_isPath_0 14 rfl rfl)
theorem dX7_isPath_15 : decode cX7_isPath 15 = .ok (.ifCond .le 23, 3) := dk_158 0 23 (dk_at dksX7_isPath_0 15 rfl rfl)
theorem dX7_isPath_18 : decode cX7_isPath 18 = .ok (.iload_n 0, 1) := dk_26 (dk_at dksX7_isPath_0 18 rfl rfl)
theorem dX7_isPath_19 : decode cX7_isPath 19 = .ok (.bipush 10, 2) := dk_16 10 (dk_at dksX7_isPath_0 19 rfl rfl)
theorem dX7_isPath_21 : decode cX7_isPath 21 = .ok (.if_icmp .lt 13, 3) := dk_161 0 13 (dk_at dksX7_isPath_0 21 rfl rfl)
theorem dX7_isPath_24 : decode cX7_isPath 24 = .ok (.iload_n 0, 1) := dk_26 (dk_at dksX7_isPath_1 0 rfl rfl)
theorem dX7_isPath_25 : decode cX7_isPath 25 = .ok (.bipush 10, 2) := dk_16 10 (dk_at dksX7_isPath_1 1 rfl rfl)
theorem dX7_isPath_27 : decode cX7_isPath 27 = .ok (.idiv, 1) := dk_108 (dk_at dksX7_isPath_1 3 rfl rfl)
theorem dX7_isPath_28 : decode cX7_isPath 28 = .ok (.bipush 10, 2) := dk_16 10 (dk_at dksX7_isPath_1 4 rfl rfl)
theorem dX7_isPath_30 : decode cX7_isPath 30 = .ok (.irem, 1) := dk_112 (dk_at dksX7_isPath_1 6 rfl rfl)
theorem dX7_isPath_31 : decode cX7_isPath 31 = .ok (.ifCond .le 7, 3) := dk_158 0 7 (dk_at dksX7_isPath_1 7 rfl rfl)
theorem dX7_isPath_34 : decode cX7_isPath 34 = .ok (.iconst 1, 1) := dk_4 (dk_at dksX7_isPath_1 10 rfl rfl)
theorem dX7_isPath_35 : decode cX7_isPath 35 = .ok (.goto 4, 3) := dk_167 0 4 (dk_at dksX7_isPath_1 11 rfl rfl)
theorem dX7_isPath_38 : decode cX7_isPath 38 = .ok (.iconst 0, 1) := dk_3 (dk_at dksX7_isPath_1 14 rfl rfl)
theorem dX7_isPath_39 : decode cX7_isPath 39 = .ok (.ireturn, 1) := dk_172 (dk_at dksX7_isPath_1 15 rfl rfl)
abbrev cX7_in : ByteArray := prog_17_method_4_code
def yX7_in : MethodName := ⟨RX7, "in", "(III)Z"⟩
def dkwX7_in_0 : List UInt8 := [26, 27, 161, 0, 12, 26, 28, 163, 0, 7, 4, 167, 0, 4, 3, 172]
abbrev dktX7_in_0 : List UInt8 := dkwX7_in_0 ++ []
theorem dksX7_in_0 : cX7_in.data.toList.drop 0 = dktX7_in_0 := by decide +kernel
theorem dX7_in_0 : decode cX7_in 0 = .ok (.iload_n 0, 1) := dk_26 (dk_at dksX7_in_0 0 rfl rfl)
theorem dX7_in_1 : decode cX7_in 1 = .ok (.iload_n 1, 1) := dk_27 (dk_at dksX7_in_0 1 rfl rfl)
theorem dX7_in_2 : decode cX7_in 2 = .ok (.if_icmp .lt 12, 3) := dk_161 0 12 (dk_at dksX7_in_0 2 rfl rfl)
theorem dX7_in_5 : decode cX7_in 5 = .ok (.iload_n 0, 1) := dk_26 (dk_at dksX7_in_0 5 rfl rfl)
theorem dX7_in_6 : decode cX7_in 6 = .ok (.iload_n 2, 1) := dk_28 (dk_at dksX7_in_0 6 rfl rfl)
theorem dX7_in_7 : decode cX7_in 7 = .ok (.if_icmp .gt 7, 3) := dk_163 0 7 (dk_at dksX7_in_0 7 rfl rfl)
theorem dX7_in_10 : decode cX7_in 10 = .ok (.iconst 1, 1) := dk_4 (dk_at dksX7_in_0 10 rfl rfl)
theorem dX7_in_11 : decode cX7_in 11 = .ok (.goto 4, 3) := dk_167 0 4 (dk_at dksX7_in_0 11 rfl rfl)
theorem dX7_in_14 : decode cX7_in 14 = .ok (.iconst 0, 1) := dk_3 (dk_at dksX7_in_0 14 rfl rfl)
theorem dX7_in_15 : decode cX7_in 15 = .ok (.ireturn, 1) := dk_172 (dk_at dksX7_in_0 15 rfl rfl)
abbrev cX7_fails : ByteArray := prog_17_method_3_code
def yX7_fails : MethodName := ⟨RX7, "fails", "(I)I"⟩
def dkwX7_fails_0 : List UInt8 := [42, 27, 181, 0, 189, 3, 172]
abbrev dktX7_fails_0 : List UInt8 := dkwX7_fails_0 ++ []
theorem dksX7_fails_0 : cX7_fails.data.toList.drop 0 = dktX7_fails_0 := by decide +kernel
theorem dX7_fails_0 : decode cX7_fails 0 = .ok (.aload_n 0, 1) := dk_42 (dk_at dksX7_fails_0 0 rfl rfl)
theorem dX7_fails_1 : decode cX7_fails 1 = .ok (.iload_n 1, 1) := dk_27 (dk_at dksX7_fails_0 1 rfl rfl)
theorem dX7_fails_2 : decode cX7_fails 2 = .ok (.putfield 189, 3) := dk_181 0 189 (dk_at dksX7_fails_0 2 rfl rfl)
theorem dX7_fails_5 : decode cX7_fails 5 = .ok (.iconst 0, 1) := dk_3 (dk_at dksX7_fails_0 5 rfl rfl)
theorem dX7_fails_6 : decode cX7_fails 6 = .ok (.ireturn, 1) := dk_172 (dk_at dksX7_fails_0 6 rfl rfl)
abbrev cX7_layer : ByteArray := prog_17_method_18_code
def yX7_layer : MethodName := ⟨RX7, "layer", "()I"⟩
def dkwX7_layer_4 : List UInt8 := [182, 0, 244, 172]
abbrev dktX7_layer_4 : List UInt8 := dkwX7_layer_4 ++ []
def dkwX7_layer_3 : List UInt8 := [160, 0, 17, 42, 182, 0, 237, 2, 160, 0, 9, 42, 4, 182, 0, 228, 172, 42, 3, 181, 0, 225, 42]
abbrev dktX7_layer_3 : List UInt8 := dkwX7_layer_3 ++ dktX7_layer_4
def dkwX7_layer_2 : List UInt8 := [180, 0, 37, 27, 42, 180, 0, 28, 27, 46, 79, 132, 1, 1, 167, 255, 209, 42, 180, 0, 231, 16, 20]
abbrev dktX7_layer_2 : List UInt8 := dkwX7_layer_2 ++ dktX7_layer_3
def dkwX7_layer_1 : List UInt8 := [180, 0, 31, 27, 42, 180, 0, 22, 27, 46, 79, 42, 180, 0, 34, 27, 42, 180, 0, 25, 27, 46, 79, 42]
abbrev dktX7_layer_1 : List UInt8 := dkwX7_layer_1 ++ dktX7_layer_2
def dkwX7_layer_0 : List UInt8 := [42, 3, 181, 0, 189, 42, 42, 180, 0, 225, 181, 0, 234, 3, 60, 27, 42, 180, 0, 225, 162, 0, 45, 42]
abbrev dktX7_layer_0 : List UInt8 := dkwX7_layer_0 ++ dktX7_layer_1
theorem dksX7_layer_0 : cX7_layer.data.toList.drop 0 = dktX7_layer_0 := by decide +kernel
theorem dksX7_layer_1 : cX7_layer.data.toList.drop 24 = dktX7_layer_1 := dk_seg dksX7_layer_0 24 rfl rfl
theorem dksX7_layer_2 : cX7_layer.data.toList.drop 48 = dktX7_layer_2 := dk_seg dksX7_layer_1 24 rfl rfl
theorem dksX7_layer_3 : cX7_layer.data.toList.drop 71 = dktX7_layer_3 := dk_seg dksX7_layer_2 23 rfl rfl
theorem dksX7_layer_4 : cX7_layer.data.toList.drop 94 = dktX7_layer_4 := dk_seg dksX7_layer_3 23 rfl rfl
theorem dX7_layer_0 : decode cX7_layer 0 = .ok (.aload_n 0, 1) := dk_42 (dk_at dksX7_layer_0 0 rfl rfl)
theorem dX7_layer_1 : decode cX7_layer 1 = .ok (.iconst 0, 1) := dk_3 (dk_at dksX7_layer_0 1 rfl rfl)
theorem dX7_layer_2 : decode cX7_layer 2 = .ok (.putfield 189, 3) := dk_181 0 189 (dk_at dksX7_layer_0 2 rfl rfl)
theorem dX7_layer_5 : decode cX7_layer 5 = .ok (.aload_n 0, 1) := dk_42 (dk_at dksX7_layer_0 5 rfl rfl)
theorem dX7_layer_6 : decode cX7_layer 6 = .ok (.aload_n 0, 1) := dk_42 (dk_at dksX7_layer_0 6 rfl rfl)
theorem dX7_layer_7 : decode cX7_layer 7 = .ok (.getfield 225, 3) := dk_180 0 225 (dk_at dksX7_layer_0 7 rfl rfl)
theorem dX7_layer_10 : decode cX7_layer 10 = .ok (.putfield 234, 3) := dk_181 0 234 (dk_at dksX7_layer_0 10 rfl rfl)
theorem dX7_layer_13 : decode cX7_layer 13 = .ok (.iconst 0, 1) := dk_3 (dk_at dksX7_layer_0 13 rfl rfl)
theorem dX7_layer_14 : decode cX7_layer 14 = .ok (.istore_n 1, 1) := dk_60 (dk_at dksX7_layer_0 14 rfl rfl)
theorem dX7_layer_15 : decode cX7_layer 15 = .ok (.iload_n 1, 1) := dk_27 (dk_at dksX7_layer_0 15 rfl rfl)
theorem dX7_layer_16 : decode cX7_layer 16 = .ok (.aload_n 0, 1) := dk_42 (dk_at dksX7_layer_0 16 rfl rfl)
theorem dX7_layer_17 : decode cX7_layer 17 = .ok (.getfield 225, 3) := dk_180 0 225 (dk_at dksX7_layer_0 17 rfl rfl)
theorem dX7_layer_20 : decode cX7_layer 20 = .ok (.if_icmp .ge 45, 3) := dk_162 0 45 (dk_at dksX7_layer_0 20 rfl rfl)
theorem dX7_layer_23 : decode cX7_layer 23 = .ok (.aload_n 0, 1) := dk_42 (dk_at dksX7_layer_0 23 rfl rfl)
theorem dX7_layer_24 : decode cX7_layer 24 = .ok (.getfield 31, 3) := dk_180 0 31 (dk_at dksX7_layer_1 0 rfl rfl)
theorem dX7_layer_27 : decode cX7_layer 27 = .ok (.iload_n 1, 1) := dk_27 (dk_at dksX7_layer_1 3 rfl rfl)
theorem dX7_layer_28 : decode cX7_layer 28 = .ok (.aload_n 0, 1) := dk_42 (dk_at dksX7_layer_1 4 rfl rfl)
theorem dX7_layer_29 : decode cX7_layer 29 = .ok (.getfield 22, 3) := dk_180 0 22 (dk_at dksX7_layer_1 5 rfl rfl)
theorem dX7_layer_32 : decode cX7_layer 32 = .ok (.iload_n 1, 1) := dk_27 (dk_at dksX7_layer_1 8 rfl rfl)
theorem dX7_layer_33 : decode cX7_layer 33 = .ok (.iaload, 1) := dk_46 (dk_at dksX7_layer_1 9 rfl rfl)
theorem dX7_layer_34 : decode cX7_layer 34 = .ok (.iastore, 1) := dk_79 (dk_at dksX7_layer_1 10 rfl rfl)
theorem dX7_layer_35 : decode cX7_layer 35 = .ok (.aload_n 0, 1) := dk_42 (dk_at dksX7_layer_1 11 rfl rfl)
theorem dX7_layer_36 : decode cX7_layer 36 = .ok (.getfield 34, 3) := dk_180 0 34 (dk_at dksX7_layer_1 12 rfl rfl)
theorem dX7_layer_39 : decode cX7_layer 39 = .ok (.iload_n 1, 1) := dk_27 (dk_at dksX7_layer_1 15 rfl rfl)
theorem dX7_layer_40 : decode cX7_layer 40 = .ok (.aload_n 0, 1) := dk_42 (dk_at dksX7_layer_1 16 rfl rfl)
theorem dX7_layer_41 : decode cX7_layer 41 = .ok (.getfield 25, 3) := dk_180 0 25 (dk_at dksX7_layer_1 17 rfl rfl)
theorem dX7_layer_44 : decode cX7_layer 44 = .ok (.iload_n 1, 1) := dk_27 (dk_at dksX7_layer_1 20 rfl rfl)
theorem dX7_layer_45 : decode cX7_layer 45 = .ok (.iaload, 1) := dk_46 (dk_at dksX7_layer_1 21 rfl rfl)
theorem dX7_layer_46 : decode cX7_layer 46 = .ok (.iastore, 1) := dk_79 (dk_at dksX7_layer_1 22 rfl rfl)
theorem dX7_layer_47 : decode cX7_layer 47 = .ok (.aload_n 0, 1) := dk_42 (dk_at dksX7_layer_1 23 rfl rfl)
theorem dX7_layer_48 : decode cX7_layer 48 = .ok (.getfield 37, 3) := dk_180 0 37 (dk_at dksX7_layer_2 0 rfl rfl)
theorem dX7_layer_51 : decode cX7_layer 51 = .ok (.iload_n 1, 1) := dk_27 (dk_at dksX7_layer_2 3 rfl rfl)
theorem dX7_layer_52 : decode cX7_layer 52 = .ok (.aload_n 0, 1) := dk_42 (dk_at dksX7_layer_2 4 rfl rfl)
theorem dX7_layer_53 : decode cX7_layer 53 = .ok (.getfield 28, 3) := dk_180 0 28 (dk_at dksX7_layer_2 5 rfl rfl)
theorem dX7_layer_56 : decode cX7_layer 56 = .ok (.iload_n 1, 1) := dk_27 (dk_at dksX7_layer_2 8 rfl rfl)
theorem dX7_layer_57 : decode cX7_layer 57 = .ok (.iaload, 1) := dk_46 (dk_at dksX7_layer_2 9 rfl rfl)
theorem dX7_layer_58 : decode cX7_layer 58 = .ok (.iastore, 1) := dk_79 (dk_at dksX7_layer_2 10 rfl rfl)
theorem dX7_layer_59 : decode cX7_layer 59 = .ok (.iinc 1 1, 3) := dk_132 1 1 (dk_at dksX7_layer_2 11 rfl rfl)
theorem dX7_layer_62 : decode cX7_layer 62 = .ok (.goto (-47), 3) := dk_167 255 209 (dk_at dksX7_layer_2 14 rfl rfl)
theorem dX7_layer_65 : decode cX7_layer 65 = .ok (.aload_n 0, 1) := dk_42 (dk_at dksX7_layer_2 17 rfl rfl)
theorem dX7_layer_66 : decode cX7_layer 66 = .ok (.getfield 231, 3) := dk_180 0 231 (dk_at dksX7_layer_2 18 rfl rfl)
theorem dX7_layer_69 : decode cX7_layer 69 = .ok (.bipush 20, 2) := dk_16 20 (dk_at dksX7_layer_2 21 rfl rfl)
theorem dX7_layer_71 : decode cX7_layer 71 = .ok (.if_icmp .ne 17, 3) := dk_160 0 17 (dk_at dksX7_layer_3 0 rfl rfl)
theorem dX7_layer_74 : decode cX7_layer 74 = .ok (.aload_n 0, 1) := dk_42 (dk_at dksX7_layer_3 3 rfl rfl)
theorem dX7_layer_75 : decode cX7_layer 75 = .ok (.invokevirtual 237, 3) := dk_182 0 237 (dk_at dksX7_layer_3 4 rfl rfl)
theorem dX7_layer_78 : decode cX7_layer 78 = .ok (.iconst (-1), 1) := dk_2 (dk_at dksX7_layer_3 7 rfl rfl)
theorem dX7_layer_79 : decode cX7_layer 79 = .ok (.if_icmp .ne 9, 3) := dk_160 0 9 (dk_at dksX7_layer_3 8 rfl rfl)
theorem dX7_layer_82 : decode cX7_layer 82 = .ok (.aload_n 0, 1) := dk_42 (dk_at dksX7_layer_3 11 rfl rfl)
theorem dX7_layer_83 : decode cX7_layer 83 = .ok (.iconst 1, 1) := dk_4 (dk_at dksX7_layer_3 12 rfl rfl)
theorem dX7_layer_84 : decode cX7_layer 84 = .ok (.invokevirtual 228, 3) := dk_182 0 228 (dk_at dksX7_layer_3 13 rfl rfl)
theorem dX7_layer_87 : decode cX7_layer 87 = .ok (.ireturn, 1) := dk_172 (dk_at dksX7_layer_3 16 rfl rfl)
theorem dX7_layer_88 : decode cX7_layer 88 = .ok (.aload_n 0, 1) := dk_42 (dk_at dksX7_layer_3 17 rfl rfl)
theorem dX7_layer_89 : decode cX7_layer 89 = .ok (.iconst 0, 1) := dk_3 (dk_at dksX7_layer_3 18 rfl rfl)
theorem dX7_layer_90 : decode cX7_layer 90 = .ok (.putfield 225, 3) := dk_181 0 225 (dk_at dksX7_layer_3 19 rfl rfl)
theorem dX7_layer_93 : decode cX7_layer 93 = .ok (.aload_n 0, 1) := dk_42 (dk_at dksX7_layer_3 22 rfl rfl)
theorem dX7_layer_94 : decode cX7_layer 94 = .ok (.invokevirtual 244, 3) := dk_182 0 244 (dk_at dksX7_layer_4 0 rfl rfl)
theorem dX7_layer_97 : decode cX7_layer 97 = .ok (.ireturn, 1) := dk_172 (dk_at dksX7_layer_4 3 rfl rfl)
abbrev cX7_sameLayer : ByteArray := prog_17_method_16_code
def yX7_sameLayer : MethodName := ⟨RX7, "sameLayer", "()I"⟩
def dkwX7_sameLayer_5 : List UInt8 := [153, 0, 7, 28, 167, 0, 4, 27, 60, 132, 2, 255, 167, 255, 138, 27, 172]
abbrev dktX7_sameLayer_5 : List UInt8 := dkwX7_sameLayer_5 ++ []
def dkwX7_sameLayer_4 : List UInt8 := [180, 0, 37, 21, 4, 46, 160, 0, 7, 4, 167, 0, 4, 3, 62, 132, 4, 1, 167, 255, 180, 29]
abbrev dktX7_sameLayer_4 : List UInt8 := dkwX7_sameLayer_4 ++ dktX7_sameLayer_5
def dkwX7_sameLayer_3 : List UInt8 := [180, 0, 16, 21, 5, 46, 42, 180, 0, 34, 21, 4, 46, 160, 0, 24, 42, 180, 0, 19, 21, 5, 46, 42]
abbrev dktX7_sameLayer_3 : List UInt8 := dkwX7_sameLayer_3 ++ dktX7_sameLayer_4
def dkwX7_sameLayer_2 : List UInt8 := [153, 0, 69, 42, 28, 42, 180, 0, 31, 21, 4, 46, 182, 0, 207, 54, 5, 21, 5, 2, 159, 0, 41, 42]
abbrev dktX7_sameLayer_2 : List UInt8 := dkwX7_sameLayer_2 ++ dktX7_sameLayer_3
def dkwX7_sameLayer_1 : List UInt8 := [160, 0, 7, 4, 167, 0, 4, 3, 62, 3, 54, 4, 21, 4, 42, 180, 0, 234, 162, 0, 73, 29]
abbrev dktX7_sameLayer_1 : List UInt8 := dkwX7_sameLayer_1 ++ dktX7_sameLayer_2
def dkwX7_sameLayer_0 : List UInt8 := [2, 60, 42, 180, 0, 231, 4, 100, 61, 28, 155, 0, 120, 42, 180, 0, 7, 28, 46, 42, 180, 0, 234]
abbrev dktX7_sameLayer_0 : List UInt8 := dkwX7_sameLayer_0 ++ dktX7_sameLayer_1
theorem dksX7_sameLayer_0 : cX7_sameLayer.data.toList.drop 0 = dktX7_sameLayer_0 := by decide +kernel
theorem dksX7_sameLayer_1 : cX7_sameLayer.data.toList.drop 23 = dktX7_sameLayer_1 := dk_seg dksX7_sameLayer_0 23 rfl rfl
theorem dksX7_sameLayer_2 : cX7_sameLayer.data.toList.drop 45 = dktX7_sameLayer_2 := dk_seg dksX7_sameLayer_1 22 rfl rfl
theorem dksX7_sameLayer_3 : cX7_sameLayer.data.toList.drop 69 = dktX7_sameLayer_3 := dk_seg dksX7_sameLayer_2 24 rfl rfl
theorem dksX7_sameLayer_4 : cX7_sameLayer.data.toList.drop 93 = dktX7_sameLayer_4 := dk_seg dksX7_sameLayer_3 24 rfl rfl
theorem dksX7_sameLayer_5 : cX7_sameLayer.data.toList.drop 115 = dktX7_sameLayer_5 := dk_seg dksX7_sameLayer_4 22 rfl rfl
theorem dX7_sameLayer_0 : decode cX7_sameLayer 0 = .ok (.iconst (-1), 1) := dk_2 (dk_at dksX7_sameLayer_0 0 rfl rfl)
theorem dX7_sameLayer_1 : decode cX7_sameLayer 1 = .ok (.istore_n 1, 1) := dk_60 (dk_at dksX7_sameLayer_0 1 rfl rfl)
theorem dX7_sameLayer_2 : decode cX7_sameLayer 2 = .ok (.aload_n 0, 1) := dk_42 (dk_at dksX7_sameLayer_0 2 rfl rfl)
theorem dX7_sameLayer_3 : decode cX7_sameLayer 3 = .ok (.getfield 231, 3) := dk_180 0 231 (dk_at dksX7_sameLayer_0 3 rfl rfl)
theorem dX7_sameLayer_6 : decode cX7_sameLayer 6 = .ok (.iconst 1, 1) := dk_4 (dk_at dksX7_sameLayer_0 6 rfl rfl)
theorem dX7_sameLayer_7 : decode cX7_sameLayer 7 = .ok (.isub, 1) := dk_100 (dk_at dksX7_sameLayer_0 7 rfl rfl)
theorem dX7_sameLayer_8 : decode cX7_sameLayer 8 = .ok (.istore_n 2, 1) := dk_61 (dk_at dksX7_sameLayer_0 8 rfl rfl)
theorem dX7_sameLayer_9 : decode cX7_sameLayer 9 = .ok (.iload_n 2, 1) := dk_28 (dk_at dksX7_sameLayer_0 9 rfl rfl)
theorem dX7_sameLayer_10 : decode cX7_sameLayer 10 = .ok (.ifCond .lt 120, 3) := dk_155 0 120 (dk_at dksX7_sameLayer_0 10 rfl rfl)
theorem dX7_sameLayer_13 : decode cX7_sameLayer 13 = .ok (.aload_n 0, 1) := dk_42 (dk_at dksX7_sameLayer_0 13 rfl rfl)
theorem dX7_sameLayer_14 : decode cX7_sameLayer 14 = .ok (.getfield 7, 3) := dk_180 0 7 (dk_at dksX7_sameLayer_0 14 rfl rfl)
theorem dX7_sameLayer_17 : decode cX7_sameLayer 17 = .ok (.iload_n 2, 1) := dk_28 (dk_at dksX7_sameLayer_0 17 rfl rfl)
theorem dX7_sameLayer_18 : decode cX7_sameLayer 18 = .ok (.iaload, 1) := dk_46 (dk_at dksX7_sameLayer_0 18 rfl rfl)
theorem dX7_sameLayer_19 : decode cX7_sameLayer 19 = .ok (.aload_n 0, 1) := dk_42 (dk_at dksX7_sameLayer_0 19 rfl rfl)
theorem dX7_sameLayer_20 : decode cX7_sameLayer 20 = .ok (.getfield 234, 3) := dk_180 0 234 (dk_at dksX7_sameLayer_0 20 rfl rfl)
theorem dX7_sameLayer_23 : decode cX7_sameLayer 23 = .ok (.if_icmp .ne 7, 3) := dk_160 0 7 (dk_at dksX7_sameLayer_1 0 rfl rfl)
theorem dX7_sameLayer_26 : decode cX7_sameLayer 26 = .ok (.iconst 1, 1) := dk_4 (dk_at dksX7_sameLayer_1 3 rfl rfl)
theorem dX7_sameLayer_27 : decode cX7_sameLayer 27 = .ok (.goto 4, 3) := dk_167 0 4 (dk_at dksX7_sameLayer_1 4 rfl rfl)
theorem dX7_sameLayer_30 : decode cX7_sameLayer 30 = .ok (.iconst 0, 1) := dk_3 (dk_at dksX7_sameLayer_1 7 rfl rfl)
theorem dX7_sameLayer_31 : decode cX7_sameLayer 31 = .ok (.istore_n 3, 1) := dk_62 (dk_at dksX7_sameLayer_1 8 rfl rfl)
theorem dX7_sameLayer_32 : decode cX7_sameLayer 32 = .ok (.iconst 0, 1) := dk_3 (dk_at dksX7_sameLayer_1 9 rfl rfl)
theorem dX7_sameLayer_33 : decode cX7_sameLayer 33 = .ok (.istore 4, 2) := dk_54 4 (dk_at dksX7_sameLayer_1 10 rfl rfl)
theorem dX7_sameLayer_35 : decode cX7_sameLayer 35 = .ok (.iload 4, 2) := dk_21 4 (dk_at dksX7_sameLayer_1 12 rfl rfl)
theorem dX7_sameLayer_37 : decode cX7_sameLayer 37 = .ok (.aload_n 0, 1) := dk_42 (dk_at dksX7_sameLayer_1 14 rfl rfl)
theorem dX7_sameLayer_38 : decode cX7_sameLayer 38 = .ok (.getfield 234, 3) := dk_180 0 234 (dk_at dksX7_sameLayer_1 15 rfl rfl)
theorem dX7_sameLayer_41 : decode cX7_sameLayer 41 = .ok (.if_icmp .ge 73, 3) := dk_162 0 73 (dk_at dksX7_sameLayer_1 18 rfl rfl)
theorem dX7_sameLayer_44 : decode cX7_sameLayer 44 = .ok (.iload_n 3, 1) := dk_29 (dk_at dksX7_sameLayer_1 21 rfl rfl)
theorem dX7_sameLayer_45 : decode cX7_sameLayer 45 = .ok (.ifCond .eq 69, 3) := dk_153 0 69 (dk_at dksX7_sameLayer_2 0 rfl rfl)
theorem dX7_sameLayer_48 : decode cX7_sameLayer 48 = .ok (.aload_n 0, 1) := dk_42 (dk_at dksX7_sameLayer_2 3 rfl rfl)
theorem dX7_sameLayer_49 : decode cX7_sameLayer 49 = .ok (.iload_n 2, 1) := dk_28 (dk_at dksX7_sameLayer_2 4 rfl rfl)
theorem dX7_sameLayer_50 : decode cX7_sameLayer 50 = .ok (.aload_n 0, 1) := dk_42 (dk_at dksX7_sameLayer_2 5 rfl rfl)
theorem dX7_sameLayer_51 : decode cX7_sameLayer 51 = .ok (.getfield 31, 3) := dk_180 0 31 (dk_at dksX7_sameLayer_2 6 rfl rfl)
theorem dX7_sameLayer_54 : decode cX7_sameLayer 54 = .ok (.iload 4, 2) := dk_21 4 (dk_at dksX7_sameLayer_2 9 rfl rfl)
theorem dX7_sameLayer_56 : decode cX7_sameLayer 56 = .ok (.iaload, 1) := dk_46 (dk_at dksX7_sameLayer_2 11 rfl rfl)
theorem dX7_sameLayer_57 : decode cX7_sameLayer 57 = .ok (.invokevirtual 207, 3) := dk_182 0 207 (dk_at dksX7_sameLayer_2 12 rfl rfl)
theorem dX7_sameLayer_60 : decode cX7_sameLayer 60 = .ok (.istore 5, 2) := dk_54 5 (dk_at dksX7_sameLayer_2 15 rfl rfl)
theorem dX7_sameLayer_62 : decode cX7_sameLayer 62 = .ok (.iload 5, 2) := dk_21 5 (dk_at dksX7_sameLayer_2 17 rfl rfl)
theorem dX7_sameLayer_64 : decode cX7_sameLayer 64 = .ok (.iconst (-1), 1) := dk_2 (dk_at dksX7_sameLayer_2 19 rfl rfl)
theorem dX7_sameLayer_65 : decode cX7_sameLayer 65 = .ok (.if_icmp .eq 41, 3) := dk_159 0 41 (dk_at dksX7_sameLayer_2 20 rfl rfl)
theorem dX7_sameLayer_68 : decode cX7_sameLayer 68 = .ok (.aload_n 0, 1) := dk_42 (dk_at dksX7_sameLayer_2 23 rfl rfl)
theorem dX7_sameLayer_69 : decode cX7_sameLayer 69 = .ok (.getfield 16, 3) := dk_180 0 16 (dk_at dksX7_sameLayer_3 0 rfl rfl)
theorem dX7_sameLayer_72 : decode cX7_sameLayer 72 = .ok (.iload 5, 2) := dk_21 5 (dk_at dksX7_sameLayer_3 3 rfl rfl)
theorem dX7_sameLayer_74 : decode cX7_sameLayer 74 = .ok (.iaload, 1) := dk_46 (dk_at dksX7_sameLayer_3 5 rfl rfl)
theorem dX7_sameLayer_75 : decode cX7_sameLayer 75 = .ok (.aload_n 0, 1) := dk_42 (dk_at dksX7_sameLayer_3 6 rfl rfl)
theorem dX7_sameLayer_76 : decode cX7_sameLayer 76 = .ok (.getfield 34, 3) := dk_180 0 34 (dk_at dksX7_sameLayer_3 7 rfl rfl)
theorem dX7_sameLayer_79 : decode cX7_sameLayer 79 = .ok (.iload 4, 2) := dk_21 4 (dk_at dksX7_sameLayer_3 10 rfl rfl)
theorem dX7_sameLayer_81 : decode cX7_sameLayer 81 = .ok (.iaload, 1) := dk_46 (dk_at dksX7_sameLayer_3 12 rfl rfl)
theorem dX7_sameLayer_82 : decode cX7_sameLayer 82 = .ok (.if_icmp .ne 24, 3) := dk_160 0 24 (dk_at dksX7_sameLayer_3 13 rfl rfl)
theorem dX7_sameLayer_85 : decode cX7_sameLayer 85 = .ok (.aload_n 0, 1) := dk_42 (dk_at dksX7_sameLayer_3 16 rfl rfl)
theorem dX7_sameLayer_86 : decode cX7_sameLayer 86 = .ok (.getfield 19, 3) := dk_180 0 19 (dk_at dksX7_sameLayer_3 17 rfl rfl)
theorem dX7_sameLayer_89 : decode cX7_sameLayer 89 = .ok (.iload 5, 2) := dk_21 5 (dk_at dksX7_sameLayer_3 20 rfl rfl)
theorem dX7_sameLayer_91 : decode cX7_sameLayer 91 = .ok (.iaload, 1) := dk_46 (dk_at dksX7_sameLayer_3 22 rfl rfl)
theorem dX7_sameLayer_92 : decode cX7_sameLayer 92 = .ok (.aload_n 0, 1) := dk_42 (dk_at dksX7_sameLayer_3 23 rfl rfl)
theorem dX7_sameLayer_93 : decode cX7_sameLayer 93 = .ok (.getfield 37, 3) := dk_180 0 37 (dk_at dksX7_sameLayer_4 0 rfl rfl)
theorem dX7_sameLayer_96 : decode cX7_sameLayer 96 = .ok (.iload 4, 2) := dk_21 4 (dk_at dksX7_sameLayer_4 3 rfl rfl)
theorem dX7_sameLayer_98 : decode cX7_sameLayer 98 = .ok (.iaload, 1) := dk_46 (dk_at dksX7_sameLayer_4 5 rfl rfl)
theorem dX7_sameLayer_99 : decode cX7_sameLayer 99 = .ok (.if_icmp .ne 7, 3) := dk_160 0 7 (dk_at dksX7_sameLayer_4 6 rfl rfl)
theorem dX7_sameLayer_102 : decode cX7_sameLayer 102 = .ok (.iconst 1, 1) := dk_4 (dk_at dksX7_sameLayer_4 9 rfl rfl)
theorem dX7_sameLayer_103 : decode cX7_sameLayer 103 = .ok (.goto 4, 3) := dk_167 0 4 (dk_at dksX7_sameLayer_4 10 rfl rfl)
theorem dX7_sameLayer_106 : decode cX7_sameLayer 106 = .ok (.iconst 0, 1) := dk_3 (dk_at dksX7_sameLayer_4 13 rfl rfl)
theorem dX7_sameLayer_107 : decode cX7_sameLayer 107 = .ok (.istore_n 3, 1) := dk_62 (dk_at dksX7_sameLayer_4 14 rfl rfl)
theorem dX7_sameLayer_108 : decode cX7_sameLayer 108 = .ok (.iinc 4 1, 3) := dk_132 4 1 (dk_at dksX7_sameLayer_4 15 rfl rfl)
theorem dX7_sameLayer_111 : decode cX7_sameLayer 111 = .ok (.goto (-76), 3) := dk_167 255 180 (dk_at dksX7_sameLayer_4 18 rfl rfl)
theorem dX7_sameLayer_114 : decode cX7_sameLayer 114 = .ok (.iload_n 3, 1) := dk_29 (dk_at dksX7_sameLayer_4 21 rfl rfl)
theorem dX7_sameLayer_115 : decode cX7_sameLayer 115 = .ok (.ifCond .eq 7, 3) := dk_153 0 7 (dk_at dksX7_sameLayer_5 0 rfl rfl)
theorem dX7_sameLayer_118 : decode cX7_sameLayer 118 = .ok (.iload_n 2, 1) := dk_28 (dk_at dksX7_sameLayer_5 3 rfl rfl)
theorem dX7_sameLayer_119 : decode cX7_sameLayer 119 = .ok (.goto 4, 3) := dk_167 0 4 (dk_at dksX7_sameLayer_5 4 rfl rfl)
theorem dX7_sameLayer_122 : decode cX7_sameLayer 122 = .ok (.iload_n 1, 1) := dk_27 (dk_at dksX7_sameLayer_5 7 rfl rfl)
theorem dX7_sameLayer_123 : decode cX7_sameLayer 123 = .ok (.istore_n 1, 1) := dk_60 (dk_at dksX7_sameLayer_5 8 rfl rfl)
theorem dX7_sameLayer_124 : decode cX7_sameLayer 124 = .ok (.iinc 2 (-1), 3) := dk_132 2 255 (dk_at dksX7_sameLayer_5 9 rfl rfl)
theorem dX7_sameLayer_127 : decode cX7_sameLayer 127 = .ok (.goto (-118), 3) := dk_167 255 138 (dk_at dksX7_sameLayer_5 12 rfl rfl)
theorem dX7_sameLayer_130 : decode cX7_sameLayer 130 = .ok (.iload_n 1, 1) := dk_27 (dk_at dksX7_sameLayer_5 15 rfl rfl)
theorem dX7_sameLayer_131 : decode cX7_sameLayer 131 = .ok (.ireturn, 1) := dk_172 (dk_at dksX7_sameLayer_5 16 rfl rfl)
abbrev cX7_entryOf : ByteArray := prog_17_method_11_code
def yX7_entryOf : MethodName := ⟨RX7, "entryOf", "(II)I"⟩
def dkwX7_entryOf_2 : List UInt8 := [167, 255, 219, 29, 172]
abbrev dktX7_entryOf_2 : List UInt8 := dkwX7_entryOf_2 ++ []
def dkwX7_entryOf_1 : List UInt8 := [162, 0, 27, 42, 27, 21, 4, 182, 0, 203, 28, 160, 0, 8, 21, 4, 167, 0, 4, 29, 62, 132, 4, 1]
abbrev dktX7_entryOf_1 : List UInt8 := dkwX7_entryOf_1 ++ dktX7_entryOf_2
def dkwX7_entryOf_0 : List UInt8 := [2, 62, 42, 27, 182, 0, 196, 54, 4, 21, 4, 42, 27, 182, 0, 196, 42, 27, 182, 0, 200, 96]
abbrev dktX7_entryOf_0 : List UInt8 := dkwX7_entryOf_0 ++ dktX7_entryOf_1
theorem dksX7_entryOf_0 : cX7_entryOf.data.toList.drop 0 = dktX7_entryOf_0 := by decide +kernel
theorem dksX7_entryOf_1 : cX7_entryOf.data.toList.drop 22 = dktX7_entryOf_1 := dk_seg dksX7_entryOf_0 22 rfl rfl
theorem dksX7_entryOf_2 : cX7_entryOf.data.toList.drop 46 = dktX7_entryOf_2 := dk_seg dksX7_entryOf_1 24 rfl rfl
theorem dX7_entryOf_0 : decode cX7_entryOf 0 = .ok (.iconst (-1), 1) := dk_2 (dk_at dksX7_entryOf_0 0 rfl rfl)
theorem dX7_entryOf_1 : decode cX7_entryOf 1 = .ok (.istore_n 3, 1) := dk_62 (dk_at dksX7_entryOf_0 1 rfl rfl)
theorem dX7_entryOf_2 : decode cX7_entryOf 2 = .ok (.aload_n 0, 1) := dk_42 (dk_at dksX7_entryOf_0 2 rfl rfl)
theorem dX7_entryOf_3 : decode cX7_entryOf 3 = .ok (.iload_n 1, 1) := dk_27 (dk_at dksX7_entryOf_0 3 rfl rfl)
theorem dX7_entryOf_4 : decode cX7_entryOf 4 = .ok (.invokevirtual 196, 3) := dk_182 0 196 (dk_at dksX7_entryOf_0 4 rfl rfl)
theorem dX7_entryOf_7 : decode cX7_entryOf 7 = .ok (.istore 4, 2) := dk_54 4 (dk_at dksX7_entryOf_0 7 rfl rfl)
theorem dX7_entryOf_9 : decode cX7_entryOf 9 = .ok (.iload 4, 2) := dk_21 4 (dk_at dksX7_entryOf_0 9 rfl rfl)
theorem dX7_entryOf_11 : decode cX7_entryOf 11 = .ok (.aload_n 0, 1) := dk_42 (dk_at dksX7_entryOf_0 11 rfl rfl)
theorem dX7_entryOf_12 : decode cX7_entryOf 12 = .ok (.iload_n 1, 1) := dk_27 (dk_at dksX7_entryOf_0 12 rfl rfl)
theorem dX7_entryOf_13 : decode cX7_entryOf 13 = .ok (.invokevirtual 196, 3) := dk_182 0 196 (dk_at dksX7_entryOf_0 13 rfl rfl)
theorem dX7_entryOf_16 : decode cX7_entryOf 16 = .ok (.aload_n 0, 1) := dk_42 (dk_at dksX7_entryOf_0 16 rfl rfl)
theorem dX7_entryOf_17 : decode cX7_entryOf 17 = .ok (.iload_n 1, 1) := dk_27 (dk_at dksX7_entryOf_0 17 rfl rfl)
theorem dX7_entryOf_18 : decode cX7_entryOf 18 = .ok (.invokevirtual 200, 3) := dk_182 0 200 (dk_at dksX7_entryOf_0 18 rfl rfl)
theorem dX7_entryOf_21 : decode cX7_entryOf 21 = .ok (.iadd, 1) := dk_96 (dk_at dksX7_entryOf_0 21 rfl rfl)
theorem dX7_entryOf_22 : decode cX7_entryOf 22 = .ok (.if_icmp .ge 27, 3) := dk_162 0 27 (dk_at dksX7_entryOf_1 0 rfl rfl)
theorem dX7_entryOf_25 : decode cX7_entryOf 25 = .ok (.aload_n 0, 1) := dk_42 (dk_at dksX7_entryOf_1 3 rfl rfl)
theorem dX7_entryOf_26 : decode cX7_entryOf 26 = .ok (.iload_n 1, 1) := dk_27 (dk_at dksX7_entryOf_1 4 rfl rfl)
theorem dX7_entryOf_27 : decode cX7_entryOf 27 = .ok (.iload 4, 2) := dk_21 4 (dk_at dksX7_entryOf_1 5 rfl rfl)
theorem dX7_entryOf_29 : decode cX7_entryOf 29 = .ok (.invokevirtual 203, 3) := dk_182 0 203 (dk_at dksX7_entryOf_1 7 rfl rfl)
theorem dX7_entryOf_32 : decode cX7_entryOf 32 = .ok (.iload_n 2, 1) := dk_28 (dk_at dksX7_entryOf_1 10 rfl rfl)
theorem dX7_entryOf_33 : decode cX7_entryOf 33 = .ok (.if_icmp .ne 8, 3) := dk_160 0 8 (dk_at dksX7_entryOf_1 11 rfl rfl)
theorem dX7_entryOf_36 : decode cX7_entryOf 36 = .ok (.iload 4, 2) := dk_21 4 (dk_at dksX7_entryOf_1 14 rfl rfl)
theorem dX7_entryOf_38 : decode cX7_entryOf 38 = .ok (.goto 4, 3) := dk_167 0 4 (dk_at dksX7_entryOf_1 16 rfl rfl)
theorem dX7_entryOf_41 : decode cX7_entryOf 41 = .ok (.iload_n 3, 1) := dk_29 (dk_at dksX7_entryOf_1 19 rfl rfl)
theorem dX7_entryOf_42 : decode cX7_entryOf 42 = .ok (.istore_n 3, 1) := dk_62 (dk_at dksX7_entryOf_1 20 rfl rfl)
theorem dX7_entryOf_43 : decode cX7_entryOf 43 = .ok (.iinc 4 1, 3) := dk_132 4 1 (dk_at dksX7_entryOf_1 21 rfl rfl)
theorem dX7_entryOf_46 : decode cX7_entryOf 46 = .ok (.goto (-37), 3) := dk_167 255 219 (dk_at dksX7_entryOf_2 0 rfl rfl)
theorem dX7_entryOf_49 : decode cX7_entryOf 49 = .ok (.iload_n 3, 1) := dk_29 (dk_at dksX7_entryOf_2 3 rfl rfl)
theorem dX7_entryOf_50 : decode cX7_entryOf 50 = .ok (.ireturn, 1) := dk_172 (dk_at dksX7_entryOf_2 4 rfl rfl)
abbrev cX7_first : ByteArray := prog_17_method_8_code
def yX7_first : MethodName := ⟨RX7, "first", "(I)I"⟩
def dkwX7_first_0 : List UInt8 := [27, 156, 0, 12, 16, 24, 2, 27, 100, 104, 167, 0, 7, 16, 10, 27, 104, 172]
abbrev dktX7_first_0 : List UInt8 := dkwX7_first_0 ++ []
theorem dksX7_first_0 : cX7_first.data.toList.drop 0 = dktX7_first_0 := by decide +kernel
theorem dX7_first_0 : decode cX7_first 0 = .ok (.iload_n 1, 1) := dk_27 (dk_at dksX7_first_0 0 rfl rfl)
theorem dX7_first_1 : decode cX7_first 1 = .ok (.ifCond .ge 12, 3) := dk_156 0 12 (dk_at dksX7_first_0 1 rfl rfl)
theorem dX7_first_4 : decode cX7_first 4 = .ok (.bipush 24, 2) := dk_16 24 (dk_at dksX7_first_0 4 rfl rfl)
theorem dX7_first_6 : decode cX7_first 6 = .ok (.iconst (-1), 1) := dk_2 (dk_at dksX7_first_0 6 rfl rfl)
theorem dX7_first_7 : decode cX7_first 7 = .ok (.iload_n 1, 1) := dk_27 (dk_at dksX7_first_0 7 rfl rfl)
theorem dX7_first_8 : decode cX7_first 8 = .ok (.isub, 1) := dk_100 (dk_at dksX7_first_0 8 rfl rfl)
theorem dX7_first_9 : decode cX7_first 9 = .ok (.imul, 1) := dk_104 (dk_at dksX7_first_0 9 rfl rfl)
theorem dX7_first_10 : decode cX7_first 10 = .ok (.goto 7, 3) := dk_167 0 7 (dk_at dksX7_first_0 10 rfl rfl)
theorem dX7_first_13 : decode cX7_first 13 = .ok (.bipush 10, 2) := dk_16 10 (dk_at dksX7_first_0 13 rfl rfl)
theorem dX7_first_15 : decode cX7_first 15 = .ok (.iload_n 1, 1) := dk_27 (dk_at dksX7_first_0 15 rfl rfl)
theorem dX7_first_16 : decode cX7_first 16 = .ok (.imul, 1) := dk_104 (dk_at dksX7_first_0 16 rfl rfl)
theorem dX7_first_17 : decode cX7_first 17 = .ok (.ireturn, 1) := dk_172 (dk_at dksX7_first_0 17 rfl rfl)
abbrev cX7_many : ByteArray := prog_17_method_9_code
def yX7_many : MethodName := ⟨RX7, "many", "(I)I"⟩
def dkwX7_many_0 : List UInt8 := [27, 156, 0, 14, 42, 180, 0, 66, 2, 27, 100, 46, 167, 0, 9, 42, 180, 0, 7, 27, 46, 172]
abbrev dktX7_many_0 : List UInt8 := dkwX7_many_0 ++ []
theorem dksX7_many_0 : cX7_many.data.toList.drop 0 = dktX7_many_0 := by decide +kernel
theorem dX7_many_0 : decode cX7_many 0 = .ok (.iload_n 1, 1) := dk_27 (dk_at dksX7_many_0 0 rfl rfl)
theorem dX7_many_1 : decode cX7_many 1 = .ok (.ifCond .ge 14, 3) := dk_156 0 14 (dk_at dksX7_many_0 1 rfl rfl)
theorem dX7_many_4 : decode cX7_many 4 = .ok (.aload_n 0, 1) := dk_42 (dk_at dksX7_many_0 4 rfl rfl)
theorem dX7_many_5 : decode cX7_many 5 = .ok (.getfield 66, 3) := dk_180 0 66 (dk_at dksX7_many_0 5 rfl rfl)
theorem dX7_many_8 : decode cX7_many 8 = .ok (.iconst (-1), 1) := dk_2 (dk_at dksX7_many_0 8 rfl rfl)
theorem dX7_many_9 : decode cX7_many 9 = .ok (.iload_n 1, 1) := dk_27 (dk_at dksX7_many_0 9 rfl rfl)
theorem dX7_many_10 : decode cX7_many 10 = .ok (.isub, 1) := dk_100 (dk_at dksX7_many_0 10 rfl rfl)
theorem dX7_many_11 : decode cX7_many 11 = .ok (.iaload, 1) := dk_46 (dk_at dksX7_many_0 11 rfl rfl)
theorem dX7_many_12 : decode cX7_many 12 = .ok (.goto 9, 3) := dk_167 0 9 (dk_at dksX7_many_0 12 rfl rfl)
theorem dX7_many_15 : decode cX7_many 15 = .ok (.aload_n 0, 1) := dk_42 (dk_at dksX7_many_0 15 rfl rfl)
theorem dX7_many_16 : decode cX7_many 16 = .ok (.getfield 7, 3) := dk_180 0 7 (dk_at dksX7_many_0 16 rfl rfl)
theorem dX7_many_19 : decode cX7_many 19 = .ok (.iload_n 1, 1) := dk_27 (dk_at dksX7_many_0 19 rfl rfl)
theorem dX7_many_20 : decode cX7_many 20 = .ok (.iaload, 1) := dk_46 (dk_at dksX7_many_0 20 rfl rfl)
theorem dX7_many_21 : decode cX7_many 21 = .ok (.ireturn, 1) := dk_172 (dk_at dksX7_many_0 21 rfl rfl)
abbrev cX7_pathAt : ByteArray := prog_17_method_10_code
def yX7_pathAt : MethodName := ⟨RX7, "pathAt", "(II)I"⟩
def dkwX7_pathAt_0 : List UInt8 := [27, 156, 0, 12, 42, 180, 0, 69, 28, 46, 167, 0, 9, 42, 180, 0, 13, 28, 46, 172]
abbrev dktX7_pathAt_0 : List UInt8 := dkwX7_pathAt_0 ++ []
theorem dksX7_pathAt_0 : cX7_pathAt.data.toList.drop 0 = dktX7_pathAt_0 := by decide +kernel
theorem dX7_pathAt_0 : decode cX7_pathAt 0 = .ok (.iload_n 1, 1) := dk_27 (dk_at dksX7_pathAt_0 0 rfl rfl)
theorem dX7_pathAt_1 : decode cX7_pathAt 1 = .ok (.ifCond .ge 12, 3) := dk_156 0 12 (dk_at dksX7_pathAt_0 1 rfl rfl)
theorem dX7_pathAt_4 : decode cX7_pathAt 4 = .ok (.aload_n 0, 1) := dk_42 (dk_at dksX7_pathAt_0 4 rfl rfl)
theorem dX7_pathAt_5 : decode cX7_pathAt 5 = .ok (.getfield 69, 3) := dk_180 0 69 (dk_at dksX7_pathAt_0 5 rfl rfl)
theorem dX7_pathAt_8 : decode cX7_pathAt 8 = .ok (.iload_n 2, 1) := dk_28 (dk_at dksX7_pathAt_0 8 rfl rfl)
theorem dX7_pathAt_9 : decode cX7_pathAt 9 = .ok (.iaload, 1) := dk_46 (dk_at dksX7_pathAt_0 9 rfl rfl)
theorem dX7_pathAt_10 : decode cX7_pathAt 10 = .ok (.goto 9, 3) := dk_167 0 9 (dk_at dksX7_pathAt_0 10 rfl rfl)
theorem dX7_pathAt_13 : decode cX7_pathAt 13 = .ok (.aload_n 0, 1) := dk_42 (dk_at dksX7_pathAt_0 13 rfl rfl)
theorem dX7_pathAt_14 : decode cX7_pathAt 14 = .ok (.getfield 13, 3) := dk_180 0 13 (dk_at dksX7_pathAt_0 14 rfl rfl)
theorem dX7_pathAt_17 : decode cX7_pathAt 17 = .ok (.iload_n 2, 1) := dk_28 (dk_at dksX7_pathAt_0 17 rfl rfl)
theorem dX7_pathAt_18 : decode cX7_pathAt 18 = .ok (.iaload, 1) := dk_46 (dk_at dksX7_pathAt_0 18 rfl rfl)
theorem dX7_pathAt_19 : decode cX7_pathAt 19 = .ok (.ireturn, 1) := dk_172 (dk_at dksX7_pathAt_0 19 rfl rfl)
abbrev cX7_lays : ByteArray := prog_17_method_17_code
def yX7_lays : MethodName := ⟨RX7, "lays", "()I"⟩
def dkwX7_lays_4 : List UInt8 := [46, 79, 132, 2, 1, 167, 255, 194, 42, 89, 180, 0, 241, 4, 27, 120, 128, 181, 0, 241, 27, 172]
abbrev dktX7_lays_4 : List UInt8 := dkwX7_lays_4 ++ []
def dkwX7_lays_3 : List UInt8 := [28, 96, 42, 180, 0, 34, 28, 46, 79, 42, 180, 0, 19, 16, 10, 27, 104, 28, 96, 42, 180, 0, 37, 28]
abbrev dktX7_lays_3 : List UInt8 := dkwX7_lays_3 ++ dktX7_lays_4
def dkwX7_lays_2 : List UInt8 := [180, 0, 13, 16, 10, 27, 104, 28, 96, 42, 180, 0, 31, 28, 46, 79, 42, 180, 0, 16, 16, 10, 27, 104]
abbrev dktX7_lays_2 : List UInt8 := dkwX7_lays_2 ++ dktX7_lays_3
def dkwX7_lays_1 : List UInt8 := [181, 0, 231, 42, 180, 0, 7, 27, 42, 180, 0, 234, 79, 3, 61, 28, 42, 180, 0, 234, 162, 0, 60, 42]
abbrev dktX7_lays_1 : List UInt8 := dkwX7_lays_1 ++ dktX7_lays_2
def dkwX7_lays_0 : List UInt8 := [42, 182, 0, 237, 60, 27, 2, 160, 0, 95, 42, 180, 0, 231, 60, 42, 89, 180, 0, 231, 4, 96]
abbrev dktX7_lays_0 : List UInt8 := dkwX7_lays_0 ++ dktX7_lays_1
theorem dksX7_lays_0 : cX7_lays.data.toList.drop 0 = dktX7_lays_0 := by decide +kernel
theorem dksX7_lays_1 : cX7_lays.data.toList.drop 22 = dktX7_lays_1 := dk_seg dksX7_lays_0 22 rfl rfl
theorem dksX7_lays_2 : cX7_lays.data.toList.drop 46 = dktX7_lays_2 := dk_seg dksX7_lays_1 24 rfl rfl
theorem dksX7_lays_3 : cX7_lays.data.toList.drop 70 = dktX7_lays_3 := dk_seg dksX7_lays_2 24 rfl rfl
theorem dksX7_lays_4 : cX7_lays.data.toList.drop 94 = dktX7_lays_4 := dk_seg dksX7_lays_3 24 rfl rfl
theorem dX7_lays_0 : decode cX7_lays 0 = .ok (.aload_n 0, 1) := dk_42 (dk_at dksX7_lays_0 0 rfl rfl)
theorem dX7_lays_1 : decode cX7_lays 1 = .ok (.invokevirtual 237, 3) := dk_182 0 237 (dk_at dksX7_lays_0 1 rfl rfl)
theorem dX7_lays_4 : decode cX7_lays 4 = .ok (.istore_n 1, 1) := dk_60 (dk_at dksX7_lays_0 4 rfl rfl)
theorem dX7_lays_5 : decode cX7_lays 5 = .ok (.iload_n 1, 1) := dk_27 (dk_at dksX7_lays_0 5 rfl rfl)
theorem dX7_lays_6 : decode cX7_lays 6 = .ok (.iconst (-1), 1) := dk_2 (dk_at dksX7_lays_0 6 rfl rfl)
theorem dX7_lays_7 : decode cX7_lays 7 = .ok (.if_icmp .ne 95, 3) := dk_160 0 95 (dk_at dksX7_lays_0 7 rfl rfl)
theorem dX7_lays_10 : decode cX7_lays 10 = .ok (.aload_n 0, 1) := dk_42 (dk_at dksX7_lays_0 10 rfl rfl)
theorem dX7_lays_11 : decode cX7_lays 11 = .ok (.getfield 231, 3) := dk_180 0 231 (dk_at dksX7_lays_0 11 rfl rfl)
theorem dX7_lays_14 : decode cX7_lays 14 = .ok (.istore_n 1, 1) := dk_60 (dk_at dksX7_lays_0 14 rfl rfl)
theorem dX7_lays_15 : decode cX7_lays 15 = .ok (.aload_n 0, 1) := dk_42 (dk_at dksX7_lays_0 15 rfl rfl)
theorem dX7_lays_16 : decode cX7_lays 16 = .ok (.dup, 1) := dk_89 (dk_at dksX7_lays_0 16 rfl rfl)
theorem dX7_lays_17 : decode cX7_lays 17 = .ok (.getfield 231, 3) := dk_180 0 231 (dk_at dksX7_lays_0 17 rfl rfl)
theorem dX7_lays_20 : decode cX7_lays 20 = .ok (.iconst 1, 1) := dk_4 (dk_at dksX7_lays_0 20 rfl rfl)
theorem dX7_lays_21 : decode cX7_lays 21 = .ok (.iadd, 1) := dk_96 (dk_at dksX7_lays_0 21 rfl rfl)
theorem dX7_lays_22 : decode cX7_lays 22 = .ok (.putfield 231, 3) := dk_181 0 231 (dk_at dksX7_lays_1 0 rfl rfl)
theorem dX7_lays_25 : decode cX7_lays 25 = .ok (.aload_n 0, 1) := dk_42 (dk_at dksX7_lays_1 3 rfl rfl)
theorem dX7_lays_26 : decode cX7_lays 26 = .ok (.getfield 7, 3) := dk_180 0 7 (dk_at dksX7_lays_1 4 rfl rfl)
theorem dX7_lays_29 : decode cX7_lays 29 = .ok (.iload_n 1, 1) := dk_27 (dk_at dksX7_lays_1 7 rfl rfl)
theorem dX7_lays_30 : decode cX7_lays 30 = .ok (.aload_n 0, 1) := dk_42 (dk_at dksX7_lays_1 8 rfl rfl)
theorem dX7_lays_31 : decode cX7_lays 31 = .ok (.getfield 234, 3) := dk_180 0 234 (dk_at dksX7_lays_1 9 rfl rfl)
theorem dX7_lays_34 : decode cX7_lays 34 = .ok (.iastore, 1) := dk_79 (dk_at dksX7_lays_1 12 rfl rfl)
theorem dX7_lays_35 : decode cX7_lays 35 = .ok (.iconst 0, 1) := dk_3 (dk_at dksX7_lays_1 13 rfl rfl)
theorem dX7_lays_36 : decode cX7_lays 36 = .ok (.istore_n 2, 1) := dk_61 (dk_at dksX7_lays_1 14 rfl rfl)
theorem dX7_lays_37 : decode cX7_lays 37 = .ok (.iload_n 2, 1) := dk_28 (dk_at dksX7_lays_1 15 rfl rfl)
theorem dX7_lays_38 : decode cX7_lays 38 = .ok (.aload_n 0, 1) := dk_42 (dk_at dksX7_lays_1 16 rfl rfl)
theorem dX7_lays_39 : decode cX7_lays 39 = .ok (.getfield 234, 3) := dk_180 0 234 (dk_at dksX7_lays_1 17 rfl rfl)
theorem dX7_lays_42 : decode cX7_lays 42 = .ok (.if_icmp .ge 60, 3) := dk_162 0 60 (dk_at dksX7_lays_1 20 rfl rfl)
theorem dX7_lays_45 : decode cX7_lays 45 = .ok (.aload_n 0, 1) := dk_42 (dk_at dksX7_lays_1 23 rfl rfl)
theorem dX7_lays_46 : decode cX7_lays 46 = .ok (.getfield 13, 3) := dk_180 0 13 (dk_at dksX7_lays_2 0 rfl rfl)
theorem dX7_lays_49 : decode cX7_lays 49 = .ok (.bipush 10, 2) := dk_16 10 (dk_at dksX7_lays_2 3 rfl rfl)
theorem dX7_lays_51 : decode cX7_lays 51 = .ok (.iload_n 1, 1) := dk_27 (dk_at dksX7_lays_2 5 rfl rfl)
theorem dX7_lays_52 : decode cX7_lays 52 = .ok (.imul, 1) := dk_104 (dk_at dksX7_lays_2 6 rfl rfl)
theorem dX7_lays_53 : decode cX7_lays 53 = .ok (.iload_n 2, 1) := dk_28 (dk_at dksX7_lays_2 7 rfl rfl)
theorem dX7_lays_54 : decode cX7_lays 54 = .ok (.iadd, 1) := dk_96 (dk_at dksX7_lays_2 8 rfl rfl)
theorem dX7_lays_55 : decode cX7_lays 55 = .ok (.aload_n 0, 1) := dk_42 (dk_at dksX7_lays_2 9 rfl rfl)
theorem dX7_lays_56 : decode cX7_lays 56 = .ok (.getfield 31, 3) := dk_180 0 31 (dk_at dksX7_lays_2 10 rfl rfl)
theorem dX7_lays_59 : decode cX7_lays 59 = .ok (.iload_n 2, 1) := dk_28 (dk_at dksX7_lays_2 13 rfl rfl)
theorem dX7_lays_60 : decode cX7_lays 60 = .ok (.iaload, 1) := dk_46 (dk_at dksX7_lays_2 14 rfl rfl)
theorem dX7_lays_61 : decode cX7_lays 61 = .ok (.iastore, 1) := dk_79 (dk_at dksX7_lays_2 15 rfl rfl)
theorem dX7_lays_62 : decode cX7_lays 62 = .ok (.aload_n 0, 1) := dk_42 (dk_at dksX7_lays_2 16 rfl rfl)
theorem dX7_lays_63 : decode cX7_lays 63 = .ok (.getfield 16, 3) := dk_180 0 16 (dk_at dksX7_lays_2 17 rfl rfl)
theorem dX7_lays_66 : decode cX7_lays 66 = .ok (.bipush 10, 2) := dk_16 10 (dk_at dksX7_lays_2 20 rfl rfl)
theorem dX7_lays_68 : decode cX7_lays 68 = .ok (.iload_n 1, 1) := dk_27 (dk_at dksX7_lays_2 22 rfl rfl)
theorem dX7_lays_69 : decode cX7_lays 69 = .ok (.imul, 1) := dk_104 (dk_at dksX7_lays_2 23 rfl rfl)
theorem dX7_lays_70 : decode cX7_lays 70 = .ok (.iload_n 2, 1) := dk_28 (dk_at dksX7_lays_3 0 rfl rfl)
theorem dX7_lays_71 : decode cX7_lays 71 = .ok (.iadd, 1) := dk_96 (dk_at dksX7_lays_3 1 rfl rfl)
theorem dX7_lays_72 : decode cX7_lays 72 = .ok (.aload_n 0, 1) := dk_42 (dk_at dksX7_lays_3 2 rfl rfl)
theorem dX7_lays_73 : decode cX7_lays 73 = .ok (.getfield 34, 3) := dk_180 0 34 (dk_at dksX7_lays_3 3 rfl rfl)
theorem dX7_lays_76 : decode cX7_lays 76 = .ok (.iload_n 2, 1) := dk_28 (dk_at dksX7_lays_3 6 rfl rfl)
theorem dX7_lays_77 : decode cX7_lays 77 = .ok (.iaload, 1) := dk_46 (dk_at dksX7_lays_3 7 rfl rfl)
theorem dX7_lays_78 : decode cX7_lays 78 = .ok (.iastore, 1) := dk_79 (dk_at dksX7_lays_3 8 rfl rfl)
theorem dX7_lays_79 : decode cX7_lays 79 = .ok (.aload_n 0, 1) := dk_42 (dk_at dksX7_lays_3 9 rfl rfl)
theorem dX7_lays_80 : decode cX7_lays 80 = .ok (.getfield 19, 3) := dk_180 0 19 (dk_at dksX7_lays_3 10 rfl rfl)
theorem dX7_lays_83 : decode cX7_lays 83 = .ok (.bipush 10, 2) := dk_16 10 (dk_at dksX7_lays_3 13 rfl rfl)
theorem dX7_lays_85 : decode cX7_lays 85 = .ok (.iload_n 1, 1) := dk_27 (dk_at dksX7_lays_3 15 rfl rfl)
theorem dX7_lays_86 : decode cX7_lays 86 = .ok (.imul, 1) := dk_104 (dk_at dksX7_lays_3 16 rfl rfl)
theorem dX7_lays_87 : decode cX7_lays 87 = .ok (.iload_n 2, 1) := dk_28 (dk_at dksX7_lays_3 17 rfl rfl)
theorem dX7_lays_88 : decode cX7_lays 88 = .ok (.iadd, 1) := dk_96 (dk_at dksX7_lays_3 18 rfl rfl)
theorem dX7_lays_89 : decode cX7_lays 89 = .ok (.aload_n 0, 1) := dk_42 (dk_at dksX7_lays_3 19 rfl rfl)
theorem dX7_lays_90 : decode cX7_lays 90 = .ok (.getfield 37, 3) := dk_180 0 37 (dk_at dksX7_lays_3 20 rfl rfl)
theorem dX7_lays_93 : decode cX7_lays 93 = .ok (.iload_n 2, 1) := dk_28 (dk_at dksX7_lays_3 23 rfl rfl)
theorem dX7_lays_94 : decode cX7_lays 94 = .ok (.iaload, 1) := dk_46 (dk_at dksX7_lays_4 0 rfl rfl)
theorem dX7_lays_95 : decode cX7_lays 95 = .ok (.iastore, 1) := dk_79 (dk_at dksX7_lays_4 1 rfl rfl)
theorem dX7_lays_96 : decode cX7_lays 96 = .ok (.iinc 2 1, 3) := dk_132 2 1 (dk_at dksX7_lays_4 2 rfl rfl)
theorem dX7_lays_99 : decode cX7_lays 99 = .ok (.goto (-62), 3) := dk_167 255 194 (dk_at dksX7_lays_4 5 rfl rfl)
theorem dX7_lays_102 : decode cX7_lays 102 = .ok (.aload_n 0, 1) := dk_42 (dk_at dksX7_lays_4 8 rfl rfl)
theorem dX7_lays_103 : decode cX7_lays 103 = .ok (.dup, 1) := dk_89 (dk_at dksX7_lays_4 9 rfl rfl)
theorem dX7_lays_104 : decode cX7_lays 104 = .ok (.getfield 241, 3) := dk_180 0 241 (dk_at dksX7_lays_4 10 rfl rfl)
theorem dX7_lays_107 : decode cX7_lays 107 = .ok (.iconst 1, 1) := dk_4 (dk_at dksX7_lays_4 13 rfl rfl)
theorem dX7_lays_108 : decode cX7_lays 108 = .ok (.iload_n 1, 1) := dk_27 (dk_at dksX7_lays_4 14 rfl rfl)
theorem dX7_lays_109 : decode cX7_lays 109 = .ok (.ishl, 1) := dk_120 (dk_at dksX7_lays_4 15 rfl rfl)
theorem dX7_lays_110 : decode cX7_lays 110 = .ok (.ior, 1) := dk_128 (dk_at dksX7_lays_4 16 rfl rfl)
theorem dX7_lays_111 : decode cX7_lays 111 = .ok (.putfield 241, 3) := dk_181 0 241 (dk_at dksX7_lays_4 17 rfl rfl)
theorem dX7_lays_114 : decode cX7_lays 114 = .ok (.iload_n 1, 1) := dk_27 (dk_at dksX7_lays_4 20 rfl rfl)
theorem dX7_lays_115 : decode cX7_lays 115 = .ok (.ireturn, 1) := dk_172 (dk_at dksX7_lays_4 21 rfl rfl)
abbrev cX7_image : ByteArray := prog_17_method_22_code
def yX7_image : MethodName := ⟨RX7, "image", "(II)I"⟩
def dkwX7_image_2 : List UInt8 := [158, 0, 7, 3, 167, 0, 9, 42, 27, 28, 182, 1, 0, 172]
abbrev dktX7_image_2 : List UInt8 := dkwX7_image_2 ++ []
def dkwX7_image_1 : List UInt8 := [167, 0, 17, 42, 27, 28, 182, 0, 253, 154, 0, 7, 5, 167, 0, 4, 3, 181, 0, 189, 42, 180, 0, 189]
abbrev dktX7_image_1 : List UInt8 := dkwX7_image_1 ++ dktX7_image_2
def dkwX7_image_0 : List UInt8 := [42, 42, 27, 182, 0, 250, 153, 0, 17, 28, 3, 42, 180, 0, 231, 4, 100, 184, 0, 192, 154, 0, 7, 4]
abbrev dktX7_image_0 : List UInt8 := dkwX7_image_0 ++ dktX7_image_1
theorem dksX7_image_0 : cX7_image.data.toList.drop 0 = dktX7_image_0 := by decide +kernel
theorem dksX7_image_1 : cX7_image.data.toList.drop 24 = dktX7_image_1 := dk_seg dksX7_image_0 24 rfl rfl
theorem dksX7_image_2 : cX7_image.data.toList.drop 48 = dktX7_image_2 := dk_seg dksX7_image_1 24 rfl rfl
theorem dX7_image_0 : decode cX7_image 0 = .ok (.aload_n 0, 1) := dk_42 (dk_at dksX7_image_0 0 rfl rfl)
theorem dX7_image_1 : decode cX7_image 1 = .ok (.aload_n 0, 1) := dk_42 (dk_at dksX7_image_0 1 rfl rfl)
theorem dX7_image_2 : decode cX7_image 2 = .ok (.iload_n 1, 1) := dk_27 (dk_at dksX7_image_0 2 rfl rfl)
theorem dX7_image_3 : decode cX7_image 3 = .ok (.invokevirtual 250, 3) := dk_182 0 250 (dk_at dksX7_image_0 3 rfl rfl)
theorem dX7_image_6 : decode cX7_image 6 = .ok (.ifCond .eq 17, 3) := dk_153 0 17 (dk_at dksX7_image_0 6 rfl rfl)
theorem dX7_image_9 : decode cX7_image 9 = .ok (.iload_n 2, 1) := dk_28 (dk_at dksX7_image_0 9 rfl rfl)
theorem dX7_image_10 : decode cX7_image 10 = .ok (.iconst 0, 1) := dk_3 (dk_at dksX7_image_0 10 rfl rfl)
theorem dX7_image_11 : decode cX7_image 11 = .ok (.aload_n 0, 1) := dk_42 (dk_at dksX7_image_0 11 rfl rfl)
theorem dX7_image_12 : decode cX7_image 12 = .ok (.getfield 231, 3) := dk_180 0 231 (dk_at dksX7_image_0 12 rfl rfl)
theorem dX7_image_15 : decode cX7_image 15 = .ok (.iconst 1, 1) := dk_4 (dk_at dksX7_image_0 15 rfl rfl)
theorem dX7_image_16 : decode cX7_image 16 = .ok (.isub, 1) := dk_100 (dk_at dksX7_image_0 16 rfl rfl)
theorem dX7_image_17 : decode cX7_image 17 = .ok (.invokestatic 192, 3) := dk_184 0 192 (dk_at dksX7_image_0 17 rfl rfl)
theorem dX7_image_20 : decode cX7_image 20 = .ok (.ifCond .ne 7, 3) := dk_154 0 7 (dk_at dksX7_image_0 20 rfl rfl)
theorem dX7_image_23 : decode cX7_image 23 = .ok (.iconst 1, 1) := dk_4 (dk_at dksX7_image_0 23 rfl rfl)
theorem dX7_image_24 : decode cX7_image 24 = .ok (.goto 17, 3) := dk_167 0 17 (dk_at dksX7_image_1 0 rfl rfl)
theorem dX7_image_27 : decode cX7_image 27 = .ok (.aload_n 0, 1) := dk_42 (dk_at dksX7_image_1 3 rfl rfl)
theorem dX7_image_28 : decode cX7_image 28 = .ok (.iload_n 1, 1) := dk_27 (dk_at dksX7_image_1 4 rfl rfl)
theorem dX7_image_29 : decode cX7_image 29 = .ok (.iload_n 2, 1) := dk_28 (dk_at dksX7_image_1 5 rfl rfl)
theorem dX7_image_30 : decode cX7_image 30 = .ok (.invokevirtual 253, 3) := dk_182 0 253 (dk_at dksX7_image_1 6 rfl rfl)
theorem dX7_image_33 : decode cX7_image 33 = .ok (.ifCond .ne 7, 3) := dk_154 0 7 (dk_at dksX7_image_1 9 rfl rfl)
theorem dX7_image_36 : decode cX7_image 36 = .ok (.iconst 2, 1) := dk_5 (dk_at dksX7_image_1 12 rfl rfl)
theorem dX7_image_37 : decode cX7_image 37 = .ok (.goto 4, 3) := dk_167 0 4 (dk_at dksX7_image_1 13 rfl rfl)
theorem dX7_image_40 : decode cX7_image 40 = .ok (.iconst 0, 1) := dk_3 (dk_at dksX7_image_1 16 rfl rfl)
theorem dX7_image_41 : decode cX7_image 41 = .ok (.putfield 189, 3) := dk_181 0 189 (dk_at dksX7_image_1 17 rfl rfl)
theorem dX7_image_44 : decode cX7_image 44 = .ok (.aload_n 0, 1) := dk_42 (dk_at dksX7_image_1 20 rfl rfl)
theorem dX7_image_45 : decode cX7_image 45 = .ok (.getfield 189, 3) := dk_180 0 189 (dk_at dksX7_image_1 21 rfl rfl)
theorem dX7_image_48 : decode cX7_image 48 = .ok (.ifCond .le 7, 3) := dk_158 0 7 (dk_at dksX7_image_2 0 rfl rfl)
theorem dX7_image_51 : decode cX7_image 51 = .ok (.iconst 0, 1) := dk_3 (dk_at dksX7_image_2 3 rfl rfl)
theorem dX7_image_52 : decode cX7_image 52 = .ok (.goto 9, 3) := dk_167 0 9 (dk_at dksX7_image_2 4 rfl rfl)
theorem dX7_image_55 : decode cX7_image 55 = .ok (.aload_n 0, 1) := dk_42 (dk_at dksX7_image_2 7 rfl rfl)
theorem dX7_image_56 : decode cX7_image 56 = .ok (.iload_n 1, 1) := dk_27 (dk_at dksX7_image_2 8 rfl rfl)
theorem dX7_image_57 : decode cX7_image 57 = .ok (.iload_n 2, 1) := dk_28 (dk_at dksX7_image_2 9 rfl rfl)
theorem dX7_image_58 : decode cX7_image 58 = .ok (.invokevirtual 256, 3) := dk_182 1 0 (dk_at dksX7_image_2 10 rfl rfl)
theorem dX7_image_61 : decode cX7_image 61 = .ok (.ireturn, 1) := dk_172 (dk_at dksX7_image_2 13 rfl rfl)
abbrev cX7_isImage : ByteArray := prog_17_method_7_code
def yX7_isImage : MethodName := ⟨RX7, "isImage", "(I)Z"⟩
def dkwX7_isImage_0 : List UInt8 := [27, 3, 42, 180, 0, 40, 4, 100, 184, 0, 192, 172]
abbrev dktX7_isImage_0 : List UInt8 := dkwX7_isImage_0 ++ []
theorem dksX7_isImage_0 : cX7_isImage.data.toList.drop 0 = dktX7_isImage_0 := by decide +kernel
theorem dX7_isImage_0 : decode cX7_isImage 0 = .ok (.iload_n 1, 1) := dk_27 (dk_at dksX7_isImage_0 0 rfl rfl)
theorem dX7_isImage_1 : decode cX7_isImage 1 = .ok (.iconst 0, 1) := dk_3 (dk_at dksX7_isImage_0 1 rfl rfl)
theorem dX7_isImage_2 : decode cX7_isImage 2 = .ok (.aload_n 0, 1) := dk_42 (dk_at dksX7_isImage_0 2 rfl rfl)
theorem dX7_isImage_3 : decode cX7_isImage 3 = .ok (.getfield 40, 3) := dk_180 0 40 (dk_at dksX7_isImage_0 3 rfl rfl)
theorem dX7_isImage_6 : decode cX7_isImage 6 = .ok (.iconst 1, 1) := dk_4 (dk_at dksX7_isImage_0 6 rfl rfl)
theorem dX7_isImage_7 : decode cX7_isImage 7 = .ok (.isub, 1) := dk_100 (dk_at dksX7_isImage_0 7 rfl rfl)
theorem dX7_isImage_8 : decode cX7_isImage 8 = .ok (.invokestatic 192, 3) := dk_184 0 192 (dk_at dksX7_isImage_0 8 rfl rfl)
theorem dX7_isImage_11 : decode cX7_isImage 11 = .ok (.ireturn, 1) := dk_172 (dk_at dksX7_isImage_0 11 rfl rfl)
abbrev cX7_canStack : ByteArray := prog_17_method_20_code
def yX7_canStack : MethodName := ⟨RX7, "canStack", "(II)Z"⟩
def dkwX7_canStack_1 : List UInt8 := [42, 27, 28, 182, 0, 247, 2, 159, 0, 7, 4, 167, 0, 4, 3, 172]
abbrev dktX7_canStack_1 : List UInt8 := dkwX7_canStack_1 ++ []
def dkwX7_canStack_0 : List UInt8 := [42, 180, 0, 44, 27, 46, 8, 162, 0, 31, 42, 180, 0, 40, 16, 12, 161, 0, 18, 28, 2, 159, 0, 17]
abbrev dktX7_canStack_0 : List UInt8 := dkwX7_canStack_0 ++ dktX7_canStack_1
theorem dksX7_canStack_0 : cX7_canStack.data.toList.drop 0 = dktX7_canStack_0 := by decide +kernel
theorem dksX7_canStack_1 : cX7_canStack.data.toList.drop 24 = dktX7_canStack_1 := dk_seg dksX7_canStack_0 24 rfl rfl
theorem dX7_canStack_0 : decode cX7_canStack 0 = .ok (.aload_n 0, 1) := dk_42 (dk_at dksX7_canStack_0 0 rfl rfl)
theorem dX7_canStack_1 : decode cX7_canStack 1 = .ok (.getfield 44, 3) := dk_180 0 44 (dk_at dksX7_canStack_0 1 rfl rfl)
theorem dX7_canStack_4 : decode cX7_canStack 4 = .ok (.iload_n 1, 1) := dk_27 (dk_at dksX7_canStack_0 4 rfl rfl)
theorem dX7_canStack_5 : decode cX7_canStack 5 = .ok (.iaload, 1) := dk_46 (dk_at dksX7_canStack_0 5 rfl rfl)
theorem dX7_canStack_6 : decode cX7_canStack 6 = .ok (.iconst 5, 1) := dk_8 (dk_at dksX7_canStack_0 6 rfl rfl)
theorem dX7_canStack_7 : decode cX7_canStack 7 = .ok (.if_icmp .ge 31, 3) := dk_162 0 31 (dk_at dksX7_canStack_0 7 rfl rfl)
theorem dX7_canStack_10 : decode cX7_canStack 10 = .ok (.aload_n 0, 1) := dk_42 (dk_at dksX7_canStack_0 10 rfl rfl)
theorem dX7_canStack_11 : decode cX7_canStack 11 = .ok (.getfield 40, 3) := dk_180 0 40 (dk_at dksX7_canStack_0 11 rfl rfl)
theorem dX7_canStack_14 : decode cX7_canStack 14 = .ok (.bipush 12, 2) := dk_16 12 (dk_at dksX7_canStack_0 14 rfl rfl)
theorem dX7_canStack_16 : decode cX7_canStack 16 = .ok (.if_icmp .lt 18, 3) := dk_161 0 18 (dk_at dksX7_canStack_0 16 rfl rfl)
theorem dX7_canStack_19 : decode cX7_canStack 19 = .ok (.iload_n 2, 1) := dk_28 (dk_at dksX7_canStack_0 19 rfl rfl)
theorem dX7_canStack_20 : decode cX7_canStack 20 = .ok (.iconst (-1), 1) := dk_2 (dk_at dksX7_canStack_0 20 rfl rfl)
theorem dX7_canStack_21 : decode cX7_canStack 21 = .ok (.if_icmp .eq 17, 3) := dk_159 0 17 (dk_at dksX7_canStack_0 21 rfl rfl)
theorem dX7_canStack_24 : decode cX7_canStack 24 = .ok (.aload_n 0, 1) := dk_42 (dk_at dksX7_canStack_1 0 rfl rfl)
theorem dX7_canStack_25 : decode cX7_canStack 25 = .ok (.iload_n 1, 1) := dk_27 (dk_at dksX7_canStack_1 1 rfl rfl)
theorem dX7_canStack_26 : decode cX7_canStack 26 = .ok (.iload_n 2, 1) := dk_28 (dk_at dksX7_canStack_1 2 rfl rfl)
theorem dX7_canStack_27 : decode cX7_canStack 27 = .ok (.invokevirtual 247, 3) := dk_182 0 247 (dk_at dksX7_canStack_1 3 rfl rfl)
theorem dX7_canStack_30 : decode cX7_canStack 30 = .ok (.iconst (-1), 1) := dk_2 (dk_at dksX7_canStack_1 6 rfl rfl)
theorem dX7_canStack_31 : decode cX7_canStack 31 = .ok (.if_icmp .eq 7, 3) := dk_159 0 7 (dk_at dksX7_canStack_1 7 rfl rfl)
theorem dX7_canStack_34 : decode cX7_canStack 34 = .ok (.iconst 1, 1) := dk_4 (dk_at dksX7_canStack_1 10 rfl rfl)
theorem dX7_canStack_35 : decode cX7_canStack 35 = .ok (.goto 4, 3) := dk_167 0 4 (dk_at dksX7_canStack_1 11 rfl rfl)
theorem dX7_canStack_38 : decode cX7_canStack 38 = .ok (.iconst 0, 1) := dk_3 (dk_at dksX7_canStack_1 14 rfl rfl)
theorem dX7_canStack_39 : decode cX7_canStack 39 = .ok (.ireturn, 1) := dk_172 (dk_at dksX7_canStack_1 15 rfl rfl)
abbrev cX7_sameImage : ByteArray := prog_17_method_19_code
def yX7_sameImage : MethodName := ⟨RX7, "sameImage", "(II)I"⟩
def dkwX7_sameImage_5 : List UInt8 := [21, 5, 153, 0, 8, 21, 4, 167, 0, 4, 29, 62, 132, 4, 255, 167, 255, 133, 29, 172]
abbrev dktX7_sameImage_5 : List UInt8 := dkwX7_sameImage_5 ++ []
def dkwX7_sameImage_4 : List UInt8 := [8, 27, 104, 21, 6, 96, 46, 160, 0, 7, 4, 167, 0, 4, 3, 54, 5, 132, 6, 1, 167, 255, 204]
abbrev dktX7_sameImage_4 : List UInt8 := dkwX7_sameImage_4 ++ dktX7_sameImage_5
def dkwX7_sameImage_3 : List UInt8 := [162, 0, 47, 21, 5, 153, 0, 42, 42, 180, 0, 47, 8, 21, 4, 104, 21, 6, 96, 46, 42, 180, 0, 47]
abbrev dktX7_sameImage_3 : List UInt8 := dkwX7_sameImage_3 ++ dktX7_sameImage_4
def dkwX7_sameImage_2 : List UInt8 := [96, 46, 28, 160, 0, 7, 4, 167, 0, 4, 3, 54, 5, 3, 54, 6, 21, 6, 42, 180, 0, 44, 27, 46]
abbrev dktX7_sameImage_2 : List UInt8 := dkwX7_sameImage_2 ++ dktX7_sameImage_3
def dkwX7_sameImage_1 : List UInt8 := [180, 0, 44, 27, 46, 4, 96, 160, 0, 27, 42, 180, 0, 47, 8, 21, 4, 104, 42, 180, 0, 44, 27, 46]
abbrev dktX7_sameImage_1 : List UInt8 := dkwX7_sameImage_1 ++ dktX7_sameImage_2
def dkwX7_sameImage_0 : List UInt8 := [2, 62, 42, 180, 0, 40, 4, 100, 54, 4, 21, 4, 155, 0, 124, 42, 180, 0, 44, 21, 4, 46, 42]
abbrev dktX7_sameImage_0 : List UInt8 := dkwX7_sameImage_0 ++ dktX7_sameImage_1
theorem dksX7_sameImage_0 : cX7_sameImage.data.toList.drop 0 = dktX7_sameImage_0 := by decide +kernel
theorem dksX7_sameImage_1 : cX7_sameImage.data.toList.drop 23 = dktX7_sameImage_1 := dk_seg dksX7_sameImage_0 23 rfl rfl
theorem dksX7_sameImage_2 : cX7_sameImage.data.toList.drop 47 = dktX7_sameImage_2 := dk_seg dksX7_sameImage_1 24 rfl rfl
theorem dksX7_sameImage_3 : cX7_sameImage.data.toList.drop 71 = dktX7_sameImage_3 := dk_seg dksX7_sameImage_2 24 rfl rfl
theorem dksX7_sameImage_4 : cX7_sameImage.data.toList.drop 95 = dktX7_sameImage_4 := dk_seg dksX7_sameImage_3 24 rfl rfl
theorem dksX7_sameImage_5 : cX7_sameImage.data.toList.drop 118 = dktX7_sameImage_5 := dk_seg dksX7_sameImage_4 23 rfl rfl
theorem dX7_sameImage_0 : decode cX7_sameImage 0 = .ok (.iconst (-1), 1) := dk_2 (dk_at dksX7_sameImage_0 0 rfl rfl)
theorem dX7_sameImage_1 : decode cX7_sameImage 1 = .ok (.istore_n 3, 1) := dk_62 (dk_at dksX7_sameImage_0 1 rfl rfl)
theorem dX7_sameImage_2 : decode cX7_sameImage 2 = .ok (.aload_n 0, 1) := dk_42 (dk_at dksX7_sameImage_0 2 rfl rfl)
theorem dX7_sameImage_3 : decode cX7_sameImage 3 = .ok (.getfield 40, 3) := dk_180 0 40 (dk_at dksX7_sameImage_0 3 rfl rfl)
theorem dX7_sameImage_6 : decode cX7_sameImage 6 = .ok (.iconst 1, 1) := dk_4 (dk_at dksX7_sameImage_0 6 rfl rfl)
theorem dX7_sameImage_7 : decode cX7_sameImage 7 = .ok (.isub, 1) := dk_100 (dk_at dksX7_sameImage_0 7 rfl rfl)
theorem dX7_sameImage_8 : decode cX7_sameImage 8 = .ok (.istore 4, 2) := dk_54 4 (dk_at dksX7_sameImage_0 8 rfl rfl)
theorem dX7_sameImage_10 : decode cX7_sameImage 10 = .ok (.iload 4, 2) := dk_21 4 (dk_at dksX7_sameImage_0 10 rfl rfl)
theorem dX7_sameImage_12 : decode cX7_sameImage 12 = .ok (.ifCond .lt 124, 3) := dk_155 0 124 (dk_at dksX7_sameImage_0 12 rfl rfl)
theorem dX7_sameImage_15 : decode cX7_sameImage 15 = .ok (.aload_n 0, 1) := dk_42 (dk_at dksX7_sameImage_0 15 rfl rfl)
theorem dX7_sameImage_16 : decode cX7_sameImage 16 = .ok (.getfield 44, 3) := dk_180 0 44 (dk_at dksX7_sameImage_0 16 rfl rfl)
theorem dX7_sameImage_19 : decode cX7_sameImage 19 = .ok (.iload 4, 2) := dk_21 4 (dk_at dksX7_sameImage_0 19 rfl rfl)
theorem dX7_sameImage_21 : decode cX7_sameImage 21 = .ok (.iaload, 1) := dk_46 (dk_at dksX7_sameImage_0 21 rfl rfl)
theorem dX7_sameImage_22 : decode cX7_sameImage 22 = .ok (.aload_n 0, 1) := dk_42 (dk_at dksX7_sameImage_0 22 rfl rfl)
theorem dX7_sameImage_23 : decode cX7_sameImage 23 = .ok (.getfield 44, 3) := dk_180 0 44 (dk_at dksX7_sameImage_1 0 rfl rfl)
theorem dX7_sameImage_26 : decode cX7_sameImage 26 = .ok (.iload_n 1, 1) := dk_27 (dk_at dksX7_sameImage_1 3 rfl rfl)
theorem dX7_sameImage_27 : decode cX7_sameImage 27 = .ok (.iaload, 1) := dk_46 (dk_at dksX7_sameImage_1 4 rfl rfl)
theorem dX7_sameImage_28 : decode cX7_sameImage 28 = .ok (.iconst 1, 1) := dk_4 (dk_at dksX7_sameImage_1 5 rfl rfl)
theorem dX7_sameImage_29 : decode cX7_sameImage 29 = .ok (.iadd, 1) := dk_96 (dk_at dksX7_sameImage_1 6 rfl rfl)
theorem dX7_sameImage_30 : decode cX7_sameImage 30 = .ok (.if_icmp .ne 27, 3) := dk_160 0 27 (dk_at dksX7_sameImage_1 7 rfl rfl)
theorem dX7_sameImage_33 : decode cX7_sameImage 33 = .ok (.aload_n 0, 1) := dk_42 (dk_at dksX7_sameImage_1 10 rfl rfl)
theorem dX7_sameImage_34 : decode cX7_sameImage 34 = .ok (.getfield 47, 3) := dk_180 0 47 (dk_at dksX7_sameImage_1 11 rfl rfl)
theorem dX7_sameImage_37 : decode cX7_sameImage 37 = .ok (.iconst 5, 1) := dk_8 (dk_at dksX7_sameImage_1 14 rfl rfl)
theorem dX7_sameImage_38 : decode cX7_sameImage 38 = .ok (.iload 4, 2) := dk_21 4 (dk_at dksX7_sameImage_1 15 rfl rfl)
theorem dX7_sameImage_40 : decode cX7_sameImage 40 = .ok (.imul, 1) := dk_104 (dk_at dksX7_sameImage_1 17 rfl rfl)
theorem dX7_sameImage_41 : decode cX7_sameImage 41 = .ok (.aload_n 0, 1) := dk_42 (dk_at dksX7_sameImage_1 18 rfl rfl)
theorem dX7_sameImage_42 : decode cX7_sameImage 42 = .ok (.getfield 44, 3) := dk_180 0 44 (dk_at dksX7_sameImage_1 19 rfl rfl)
theorem dX7_sameImage_45 : decode cX7_sameImage 45 = .ok (.iload_n 1, 1) := dk_27 (dk_at dksX7_sameImage_1 22 rfl rfl)
theorem dX7_sameImage_46 : decode cX7_sameImage 46 = .ok (.iaload, 1) := dk_46 (dk_at dksX7_sameImage_1 23 rfl rfl)
theorem dX7_sameImage_47 : decode cX7_sameImage 47 = .ok (.iadd, 1) := dk_96 (dk_at dksX7_sameImage_2 0 rfl rfl)
theorem dX7_sameImage_48 : decode cX7_sameImage 48 = .ok (.iaload, 1) := dk_46 (dk_at dksX7_sameImage_2 1 rfl rfl)
theorem dX7_sameImage_49 : decode cX7_sameImage 49 = .ok (.iload_n 2, 1) := dk_28 (dk_at dksX7_sameImage_2 2 rfl rfl)
theorem dX7_sameImage_50 : decode cX7_sameImage 50 = .ok (.if_icmp .ne 7, 3) := dk_160 0 7 (dk_at dksX7_sameImage_2 3 rfl rfl)
theorem dX7_sameImage_53 : decode cX7_sameImage 53 = .ok (.iconst 1, 1) := dk_4 (dk_at dksX7_sameImage_2 6 rfl rfl)
theorem dX7_sameImage_54 : decode cX7_sameImage 54 = .ok (.goto 4, 3) := dk_167 0 4 (dk_at dksX7_sameImage_2 7 rfl rfl)
theorem dX7_sameImage_57 : decode cX7_sameImage 57 = .ok (.iconst 0, 1) := dk_3 (dk_at dksX7_sameImage_2 10 rfl rfl)
theorem dX7_sameImage_58 : decode cX7_sameImage 58 = .ok (.istore 5, 2) := dk_54 5 (dk_at dksX7_sameImage_2 11 rfl rfl)
theorem dX7_sameImage_60 : decode cX7_sameImage 60 = .ok (.iconst 0, 1) := dk_3 (dk_at dksX7_sameImage_2 13 rfl rfl)
theorem dX7_sameImage_61 : decode cX7_sameImage 61 = .ok (.istore 6, 2) := dk_54 6 (dk_at dksX7_sameImage_2 14 rfl rfl)
theorem dX7_sameImage_63 : decode cX7_sameImage 63 = .ok (.iload 6, 2) := dk_21 6 (dk_at dksX7_sameImage_2 16 rfl rfl)
theorem dX7_sameImage_65 : decode cX7_sameImage 65 = .ok (.aload_n 0, 1) := dk_42 (dk_at dksX7_sameImage_2 18 rfl rfl)
theorem dX7_sameImage_66 : decode cX7_sameImage 66 = .ok (.getfield 44, 3) := dk_180 0 44 (dk_at dksX7_sameImage_2 19 rfl rfl)
theorem dX7_sameImage_69 : decode cX7_sameImage 69 = .ok (.iload_n 1, 1) := dk_27 (dk_at dksX7_sameImage_2 22 rfl rfl)
theorem dX7_sameImage_70 : decode cX7_sameImage 70 = .ok (.iaload, 1) := dk_46 (dk_at dksX7_sameImage_2 23 rfl rfl)
theorem dX7_sameImage_71 : decode cX7_sameImage 71 = .ok (.if_icmp .ge 47, 3) := dk_162 0 47 (dk_at dksX7_sameImage_3 0 rfl rfl)
theorem dX7_sameImage_74 : decode cX7_sameImage 74 = .ok (.iload 5, 2) := dk_21 5 (dk_at dksX7_sameImage_3 3 rfl rfl)
theorem dX7_sameImage_76 : decode cX7_sameImage 76 = .ok (.ifCond .eq 42, 3) := dk_153 0 42 (dk_at dksX7_sameImage_3 5 rfl rfl)
theorem dX7_sameImage_79 : decode cX7_sameImage 79 = .ok (.aload_n 0, 1) := dk_42 (dk_at dksX7_sameImage_3 8 rfl rfl)
theorem dX7_sameImage_80 : decode cX7_sameImage 80 = .ok (.getfield 47, 3) := dk_180 0 47 (dk_at dksX7_sameImage_3 9 rfl rfl)
theorem dX7_sameImage_83 : decode cX7_sameImage 83 = .ok (.iconst 5, 1) := dk_8 (dk_at dksX7_sameImage_3 12 rfl rfl)
theorem dX7_sameImage_84 : decode cX7_sameImage 84 = .ok (.iload 4, 2) := dk_21 4 (dk_at dksX7_sameImage_3 13 rfl rfl)
theorem dX7_sameImage_86 : decode cX7_sameImage 86 = .ok (.imul, 1) := dk_104 (dk_at dksX7_sameImage_3 15 rfl rfl)
theorem dX7_sameImage_87 : decode cX7_sameImage 87 = .ok (.iload 6, 2) := dk_21 6 (dk_at dksX7_sameImage_3 16 rfl rfl)
theorem dX7_sameImage_89 : decode cX7_sameImage 89 = .ok (.iadd, 1) := dk_96 (dk_at dksX7_sameImage_3 18 rfl rfl)
theorem dX7_sameImage_90 : decode cX7_sameImage 90 = .ok (.iaload, 1) := dk_46 (dk_at dksX7_sameImage_3 19 rfl rfl)
theorem dX7_sameImage_91 : decode cX7_sameImage 91 = .ok (.aload_n 0, 1) := dk_42 (dk_at dksX7_sameImage_3 20 rfl rfl)
theorem dX7_sameImage_92 : decode cX7_sameImage 92 = .ok (.getfield 47, 3) := dk_180 0 47 (dk_at dksX7_sameImage_3 21 rfl rfl)
theorem dX7_sameImage_95 : decode cX7_sameImage 95 = .ok (.iconst 5, 1) := dk_8 (dk_at dksX7_sameImage_4 0 rfl rfl)
theorem dX7_sameImage_96 : decode cX7_sameImage 96 = .ok (.iload_n 1, 1) := dk_27 (dk_at dksX7_sameImage_4 1 rfl rfl)
theorem dX7_sameImage_97 : decode cX7_sameImage 97 = .ok (.imul, 1) := dk_104 (dk_at dksX7_sameImage_4 2 rfl rfl)
theorem dX7_sameImage_98 : decode cX7_sameImage 98 = .ok (.iload 6, 2) := dk_21 6 (dk_at dksX7_sameImage_4 3 rfl rfl)
theorem dX7_sameImage_100 : decode cX7_sameImage 100 = .ok (.iadd, 1) := dk_96 (dk_at dksX7_sameImage_4 5 rfl rfl)
theorem dX7_sameImage_101 : decode cX7_sameImage 101 = .ok (.iaload, 1) := dk_46 (dk_at dksX7_sameImage_4 6 rfl rfl)
theorem dX7_sameImage_102 : decode cX7_sameImage 102 = .ok (.if_icmp .ne 7, 3) := dk_160 0 7 (dk_at dksX7_sameImage_4 7 rfl rfl)
theorem dX7_sameImage_105 : decode cX7_sameImage 105 = .ok (.iconst 1, 1) := dk_4 (dk_at dksX7_sameImage_4 10 rfl rfl)
theorem dX7_sameImage_106 : decode cX7_sameImage 106 = .ok (.goto 4, 3) := dk_167 0 4 (dk_at dksX7_sameImage_4 11 rfl rfl)
theorem dX7_sameImage_109 : decode cX7_sameImage 109 = .ok (.iconst 0, 1) := dk_3 (dk_at dksX7_sameImage_4 14 rfl rfl)
theorem dX7_sameImage_110 : decode cX7_sameImage 110 = .ok (.istore 5, 2) := dk_54 5 (dk_at dksX7_sameImage_4 15 rfl rfl)
theorem dX7_sameImage_112 : decode cX7_sameImage 112 = .ok (.iinc 6 1, 3) := dk_132 6 1 (dk_at dksX7_sameImage_4 17 rfl rfl)
theorem dX7_sameImage_115 : decode cX7_sameImage 115 = .ok (.goto (-52), 3) := dk_167 255 204 (dk_at dksX7_sameImage_4 20 rfl rfl)
theorem dX7_sameImage_118 : decode cX7_sameImage 118 = .ok (.iload 5, 2) := dk_21 5 (dk_at dksX7_sameImage_5 0 rfl rfl)
theorem dX7_sameImage_120 : decode cX7_sameImage 120 = .ok (.ifCond .eq 8, 3) := dk_153 0 8 (dk_at dksX7_sameImage_5 2 rfl rfl)
theorem dX7_sameImage_123 : decode cX7_sameImage 123 = .ok (.iload 4, 2) := dk_21 4 (dk_at dksX7_sameImage_5 5 rfl rfl)
theorem dX7_sameImage_125 : decode cX7_sameImage 125 = .ok (.goto 4, 3) := dk_167 0 4 (dk_at dksX7_sameImage_5 7 rfl rfl)
theorem dX7_sameImage_128 : decode cX7_sameImage 128 = .ok (.iload_n 3, 1) := dk_29 (dk_at dksX7_sameImage_5 10 rfl rfl)
theorem dX7_sameImage_129 : decode cX7_sameImage 129 = .ok (.istore_n 3, 1) := dk_62 (dk_at dksX7_sameImage_5 11 rfl rfl)
theorem dX7_sameImage_130 : decode cX7_sameImage 130 = .ok (.iinc 4 (-1), 3) := dk_132 4 255 (dk_at dksX7_sameImage_5 12 rfl rfl)
theorem dX7_sameImage_133 : decode cX7_sameImage 133 = .ok (.goto (-123), 3) := dk_167 255 133 (dk_at dksX7_sameImage_5 15 rfl rfl)
theorem dX7_sameImage_136 : decode cX7_sameImage 136 = .ok (.iload_n 3, 1) := dk_29 (dk_at dksX7_sameImage_5 18 rfl rfl)
theorem dX7_sameImage_137 : decode cX7_sameImage 137 = .ok (.ireturn, 1) := dk_172 (dk_at dksX7_sameImage_5 19 rfl rfl)
abbrev cX7_stacks : ByteArray := prog_17_method_21_code
def yX7_stacks : MethodName := ⟨RX7, "stacks", "(II)I"⟩
def dkwX7_stacks_4 : List UInt8 := [27, 46, 4, 96, 79, 29, 172]
abbrev dktX7_stacks_4 : List UInt8 := dkwX7_stacks_4 ++ []
def dkwX7_stacks_3 : List UInt8 := [180, 0, 47, 8, 29, 104, 42, 180, 0, 44, 27, 46, 96, 28, 79, 42, 180, 0, 44, 29, 42, 180, 0, 44]
abbrev dktX7_stacks_3 : List UInt8 := dkwX7_stacks_3 ++ dktX7_stacks_4
def dkwX7_stacks_2 : List UInt8 := [21, 4, 96, 42, 180, 0, 47, 8, 27, 104, 21, 4, 96, 46, 79, 132, 4, 1, 167, 255, 220, 42]
abbrev dktX7_stacks_2 : List UInt8 := dkwX7_stacks_2 ++ dktX7_stacks_3
def dkwX7_stacks_1 : List UInt8 := [181, 0, 40, 3, 54, 4, 21, 4, 42, 180, 0, 44, 27, 46, 162, 0, 31, 42, 180, 0, 47, 8, 29, 104]
abbrev dktX7_stacks_1 : List UInt8 := dkwX7_stacks_1 ++ dktX7_stacks_2
def dkwX7_stacks_0 : List UInt8 := [42, 27, 28, 182, 0, 247, 62, 29, 2, 160, 0, 90, 42, 180, 0, 40, 62, 42, 89, 180, 0, 40, 4, 96]
abbrev dktX7_stacks_0 : List UInt8 := dkwX7_stacks_0 ++ dktX7_stacks_1
theorem dksX7_stacks_0 : cX7_stacks.data.toList.drop 0 = dktX7_stacks_0 := by decide +kernel
theorem dksX7_stacks_1 : cX7_stacks.data.toList.drop 24 = dktX7_stacks_1 := dk_seg dksX7_stacks_0 24 rfl rfl
theorem dksX7_stacks_2 : cX7_stacks.data.toList.drop 48 = dktX7_stacks_2 := dk_seg dksX7_stacks_1 24 rfl rfl
theorem dksX7_stacks_3 : cX7_stacks.data.toList.drop 70 = dktX7_stacks_3 := dk_seg dksX7_stacks_2 22 rfl rfl
theorem dksX7_stacks_4 : cX7_stacks.data.toList.drop 94 = dktX7_stacks_4 := dk_seg dksX7_stacks_3 24 rfl rfl
theorem dX7_stacks_0 : decode cX7_stacks 0 = .ok (.aload_n 0, 1) := dk_42 (dk_at dksX7_stacks_0 0 rfl rfl)
theorem dX7_stacks_1 : decode cX7_stacks 1 = .ok (.iload_n 1, 1) := dk_27 (dk_at dksX7_stacks_0 1 rfl rfl)
theorem dX7_stacks_2 : decode cX7_stacks 2 = .ok (.iload_n 2, 1) := dk_28 (dk_at dksX7_stacks_0 2 rfl rfl)
theorem dX7_stacks_3 : decode cX7_stacks 3 = .ok (.invokevirtual 247, 3) := dk_182 0 247 (dk_at dksX7_stacks_0 3 rfl rfl)
theorem dX7_stacks_6 : decode cX7_stacks 6 = .ok (.istore_n 3, 1) := dk_62 (dk_at dksX7_stacks_0 6 rfl rfl)
theorem dX7_stacks_7 : decode cX7_stacks 7 = .ok (.iload_n 3, 1) := dk_29 (dk_at dksX7_stacks_0 7 rfl rfl)
theorem dX7_stacks_8 : decode cX7_stacks 8 = .ok (.iconst (-1), 1) := dk_2 (dk_at dksX7_stacks_0 8 rfl rfl)
theorem dX7_stacks_9 : decode cX7_stacks 9 = .ok (.if_icmp .ne 90, 3) := dk_160 0 90 (dk_at dksX7_stacks_0 9 rfl rfl)
theorem dX7_stacks_12 : decode cX7_stacks 12 = .ok (.aload_n 0, 1) := dk_42 (dk_at dksX7_stacks_0 12 rfl rfl)
theorem dX7_stacks_13 : decode cX7_stacks 13 = .ok (.getfield 40, 3) := dk_180 0 40 (dk_at dksX7_stacks_0 13 rfl rfl)
theorem dX7_stacks_16 : decode cX7_stacks 16 = .ok (.istore_n 3, 1) := dk_62 (dk_at dksX7_stacks_0 16 rfl rfl)
theorem dX7_stacks_17 : decode cX7_stacks 17 = .ok (.aload_n 0, 1) := dk_42 (dk_at dksX7_stacks_0 17 rfl rfl)
theorem dX7_stacks_18 : decode cX7_stacks 18 = .ok (.dup, 1) := dk_89 (dk_at dksX7_stacks_0 18 rfl rfl)
theorem dX7_stacks_19 : decode cX7_stacks 19 = .ok (.getfield 40, 3) := dk_180 0 40 (dk_at dksX7_stacks_0 19 rfl rfl)
theorem dX7_stacks_22 : decode cX7_stacks 22 = .ok (.iconst 1, 1) := dk_4 (dk_at dksX7_stacks_0 22 rfl rfl)
theorem dX7_stacks_23 : decode cX7_stacks 23 = .ok (.iadd, 1) := dk_96 (dk_at dksX7_stacks_0 23 rfl rfl)
theorem dX7_stacks_24 : decode cX7_stacks 24 = .ok (.putfield 40, 3) := dk_181 0 40 (dk_at dksX7_stacks_1 0 rfl rfl)
theorem dX7_stacks_27 : decode cX7_stacks 27 = .ok (.iconst 0, 1) := dk_3 (dk_at dksX7_stacks_1 3 rfl rfl)
theorem dX7_stacks_28 : decode cX7_stacks 28 = .ok (.istore 4, 2) := dk_54 4 (dk_at dksX7_stacks_1 4 rfl rfl)
theorem dX7_stacks_30 : decode cX7_stacks 30 = .ok (.iload 4, 2) := dk_21 4 (dk_at dksX7_stacks_1 6 rfl rfl)
theorem dX7_stacks_32 : decode cX7_stacks 32 = .ok (.aload_n 0, 1) := dk_42 (dk_at dksX7_stacks_1 8 rfl rfl)
theorem dX7_stacks_33 : decode cX7_stacks 33 = .ok (.getfield 44, 3) := dk_180 0 44 (dk_at dksX7_stacks_1 9 rfl rfl)
theorem dX7_stacks_36 : decode cX7_stacks 36 = .ok (.iload_n 1, 1) := dk_27 (dk_at dksX7_stacks_1 12 rfl rfl)
theorem dX7_stacks_37 : decode cX7_stacks 37 = .ok (.iaload, 1) := dk_46 (dk_at dksX7_stacks_1 13 rfl rfl)
theorem dX7_stacks_38 : decode cX7_stacks 38 = .ok (.if_icmp .ge 31, 3) := dk_162 0 31 (dk_at dksX7_stacks_1 14 rfl rfl)
theorem dX7_stacks_41 : decode cX7_stacks 41 = .ok (.aload_n 0, 1) := dk_42 (dk_at dksX7_stacks_1 17 rfl rfl)
theorem dX7_stacks_42 : decode cX7_stacks 42 = .ok (.getfield 47, 3) := dk_180 0 47 (dk_at dksX7_stacks_1 18 rfl rfl)
theorem dX7_stacks_45 : decode cX7_stacks 45 = .ok (.iconst 5, 1) := dk_8 (dk_at dksX7_stacks_1 21 rfl rfl)
theorem dX7_stacks_46 : decode cX7_stacks 46 = .ok (.iload_n 3, 1) := dk_29 (dk_at dksX7_stacks_1 22 rfl rfl)
theorem dX7_stacks_47 : decode cX7_stacks 47 = .ok (.imul, 1) := dk_104 (dk_at dksX7_stacks_1 23 rfl rfl)
theorem dX7_stacks_48 : decode cX7_stacks 48 = .ok (.iload 4, 2) := dk_21 4 (dk_at dksX7_stacks_2 0 rfl rfl)
theorem dX7_stacks_50 : decode cX7_stacks 50 = .ok (.iadd, 1) := dk_96 (dk_at dksX7_stacks_2 2 rfl rfl)
theorem dX7_stacks_51 : decode cX7_stacks 51 = .ok (.aload_n 0, 1) := dk_42 (dk_at dksX7_stacks_2 3 rfl rfl)
theorem dX7_stacks_52 : decode cX7_stacks 52 = .ok (.getfield 47, 3) := dk_180 0 47 (dk_at dksX7_stacks_2 4 rfl rfl)
theorem dX7_stacks_55 : decode cX7_stacks 55 = .ok (.iconst 5, 1) := dk_8 (dk_at dksX7_stacks_2 7 rfl rfl)
theorem dX7_stacks_56 : decode cX7_stacks 56 = .ok (.iload_n 1, 1) := dk_27 (dk_at dksX7_stacks_2 8 rfl rfl)
theorem dX7_stacks_57 : decode cX7_stacks 57 = .ok (.imul, 1) := dk_104 (dk_at dksX7_stacks_2 9 rfl rfl)
theorem dX7_stacks_58 : decode cX7_stacks 58 = .ok (.iload 4, 2) := dk_21 4 (dk_at dksX7_stacks_2 10 rfl rfl)
theorem dX7_stacks_60 : decode cX7_stacks 60 = .ok (.iadd, 1) := dk_96 (dk_at dksX7_stacks_2 12 rfl rfl)
theorem dX7_stacks_61 : decode cX7_stacks 61 = .ok (.iaload, 1) := dk_46 (dk_at dksX7_stacks_2 13 rfl rfl)
theorem dX7_stacks_62 : decode cX7_stacks 62 = .ok (.iastore, 1) := dk_79 (dk_at dksX7_stacks_2 14 rfl rfl)
theorem dX7_stacks_63 : decode cX7_stacks 63 = .ok (.iinc 4 1, 3) := dk_132 4 1 (dk_at dksX7_stacks_2 15 rfl rfl)
theorem dX7_stacks_66 : decode cX7_stacks 66 = .ok (.goto (-36), 3) := dk_167 255 220 (dk_at dksX7_stacks_2 18 rfl rfl)
theorem dX7_stacks_69 : decode cX7_stacks 69 = .ok (.aload_n 0, 1) := dk_42 (dk_at dksX7_stacks_2 21 rfl rfl)
theorem dX7_stacks_70 : decode cX7_stacks 70 = .ok (.getfield 47, 3) := dk_180 0 47 (dk_at dksX7_stacks_3 0 rfl rfl)
theorem dX7_stacks_73 : decode cX7_stacks 73 = .ok (.iconst 5, 1) := dk_8 (dk_at dksX7_stacks_3 3 rfl rfl)
theorem dX7_stacks_74 : decode cX7_stacks 74 = .ok (.iload_n 3, 1) := dk_29 (dk_at dksX7_stacks_3 4 rfl rfl)
theorem dX7_stacks_75 : decode cX7_stacks 75 = .ok (.imul, 1) := dk_104 (dk_at dksX7_stacks_3 5 rfl rfl)
theorem dX7_stacks_76 : decode cX7_stacks 76 = .ok (.aload_n 0, 1) := dk_42 (dk_at dksX7_stacks_3 6 rfl rfl)
theorem dX7_stacks_77 : decode cX7_stacks 77 = .ok (.getfield 44, 3) := dk_180 0 44 (dk_at dksX7_stacks_3 7 rfl rfl)
theorem dX7_stacks_80 : decode cX7_stacks 80 = .ok (.iload_n 1, 1) := dk_27 (dk_at dksX7_stacks_3 10 rfl rfl)
theorem dX7_stacks_81 : decode cX7_stacks 81 = .ok (.iaload, 1) := dk_46 (dk_at dksX7_stacks_3 11 rfl rfl)
theorem dX7_stacks_82 : decode cX7_stacks 82 = .ok (.iadd, 1) := dk_96 (dk_at dksX7_stacks_3 12 rfl rfl)
theorem dX7_stacks_83 : decode cX7_stacks 83 = .ok (.iload_n 2, 1) := dk_28 (dk_at dksX7_stacks_3 13 rfl rfl)
theorem dX7_stacks_84 : decode cX7_stacks 84 = .ok (.iastore, 1) := dk_79 (dk_at dksX7_stacks_3 14 rfl rfl)
theorem dX7_stacks_85 : decode cX7_stacks 85 = .ok (.aload_n 0, 1) := dk_42 (dk_at dksX7_stacks_3 15 rfl rfl)
theorem dX7_stacks_86 : decode cX7_stacks 86 = .ok (.getfield 44, 3) := dk_180 0 44 (dk_at dksX7_stacks_3 16 rfl rfl)
theorem dX7_stacks_89 : decode cX7_stacks 89 = .ok (.iload_n 3, 1) := dk_29 (dk_at dksX7_stacks_3 19 rfl rfl)
theorem dX7_stacks_90 : decode cX7_stacks 90 = .ok (.aload_n 0, 1) := dk_42 (dk_at dksX7_stacks_3 20 rfl rfl)
theorem dX7_stacks_91 : decode cX7_stacks 91 = .ok (.getfield 44, 3) := dk_180 0 44 (dk_at dksX7_stacks_3 21 rfl rfl)
theorem dX7_stacks_94 : decode cX7_stacks 94 = .ok (.iload_n 1, 1) := dk_27 (dk_at dksX7_stacks_4 0 rfl rfl)
theorem dX7_stacks_95 : decode cX7_stacks 95 = .ok (.iaload, 1) := dk_46 (dk_at dksX7_stacks_4 1 rfl rfl)
theorem dX7_stacks_96 : decode cX7_stacks 96 = .ok (.iconst 1, 1) := dk_4 (dk_at dksX7_stacks_4 2 rfl rfl)
theorem dX7_stacks_97 : decode cX7_stacks 97 = .ok (.iadd, 1) := dk_96 (dk_at dksX7_stacks_4 3 rfl rfl)
theorem dX7_stacks_98 : decode cX7_stacks 98 = .ok (.iastore, 1) := dk_79 (dk_at dksX7_stacks_4 4 rfl rfl)
theorem dX7_stacks_99 : decode cX7_stacks 99 = .ok (.iload_n 3, 1) := dk_29 (dk_at dksX7_stacks_4 5 rfl rfl)
theorem dX7_stacks_100 : decode cX7_stacks 100 = .ok (.ireturn, 1) := dk_172 (dk_at dksX7_stacks_4 6 rfl rfl)
abbrev cX7_shows : ByteArray := prog_17_method_23_code
def yX7_shows : MethodName := ⟨RX7, "shows", "(II)I"⟩
def dkwX7_shows_1 : List UInt8 := [3, 181, 0, 189, 42, 180, 0, 189, 158, 0, 7, 3, 167, 0, 10, 42, 27, 2, 28, 182, 1, 3, 172]
abbrev dktX7_shows_1 : List UInt8 := dkwX7_shows_1 ++ []
def dkwX7_shows_0 : List UInt8 := [42, 42, 27, 182, 0, 250, 154, 0, 7, 4, 167, 0, 15, 28, 184, 0, 221, 154, 0, 7, 5, 167, 0, 4]
abbrev dktX7_shows_0 : List UInt8 := dkwX7_shows_0 ++ dktX7_shows_1
theorem dksX7_shows_0 : cX7_shows.data.toList.drop 0 = dktX7_shows_0 := by decide +kernel
theorem dksX7_shows_1 : cX7_shows.data.toList.drop 24 = dktX7_shows_1 := dk_seg dksX7_shows_0 24 rfl rfl
theorem dX7_shows_0 : decode cX7_shows 0 = .ok (.aload_n 0, 1) := dk_42 (dk_at dksX7_shows_0 0 rfl rfl)
theorem dX7_shows_1 : decode cX7_shows 1 = .ok (.aload_n 0, 1) := dk_42 (dk_at dksX7_shows_0 1 rfl rfl)
theorem dX7_shows_2 : decode cX7_shows 2 = .ok (.iload_n 1, 1) := dk_27 (dk_at dksX7_shows_0 2 rfl rfl)
theorem dX7_shows_3 : decode cX7_shows 3 = .ok (.invokevirtual 250, 3) := dk_182 0 250 (dk_at dksX7_shows_0 3 rfl rfl)
theorem dX7_shows_6 : decode cX7_shows 6 = .ok (.ifCond .ne 7, 3) := dk_154 0 7 (dk_at dksX7_shows_0 6 rfl rfl)
theorem dX7_shows_9 : decode cX7_shows 9 = .ok (.iconst 1, 1) := dk_4 (dk_at dksX7_shows_0 9 rfl rfl)
theorem dX7_shows_10 : decode cX7_shows 10 = .ok (.goto 15, 3) := dk_167 0 15 (dk_at dksX7_shows_0 10 rfl rfl)
theorem dX7_shows_13 : decode cX7_shows 13 = .ok (.iload_n 2, 1) := dk_28 (dk_at dksX7_shows_0 13 rfl rfl)
theorem dX7_shows_14 : decode cX7_shows 14 = .ok (.invokestatic 221, 3) := dk_184 0 221 (dk_at dksX7_shows_0 14 rfl rfl)
theorem dX7_shows_17 : decode cX7_shows 17 = .ok (.ifCond .ne 7, 3) := dk_154 0 7 (dk_at dksX7_shows_0 17 rfl rfl)
theorem dX7_shows_20 : decode cX7_shows 20 = .ok (.iconst 2, 1) := dk_5 (dk_at dksX7_shows_0 20 rfl rfl)
theorem dX7_shows_21 : decode cX7_shows 21 = .ok (.goto 4, 3) := dk_167 0 4 (dk_at dksX7_shows_0 21 rfl rfl)
theorem dX7_shows_24 : decode cX7_shows 24 = .ok (.iconst 0, 1) := dk_3 (dk_at dksX7_shows_1 0 rfl rfl)
theorem dX7_shows_25 : decode cX7_shows 25 = .ok (.putfield 189, 3) := dk_181 0 189 (dk_at dksX7_shows_1 1 rfl rfl)
theorem dX7_shows_28 : decode cX7_shows 28 = .ok (.aload_n 0, 1) := dk_42 (dk_at dksX7_shows_1 4 rfl rfl)
theorem dX7_shows_29 : decode cX7_shows 29 = .ok (.getfield 189, 3) := dk_180 0 189 (dk_at dksX7_shows_1 5 rfl rfl)
theorem dX7_shows_32 : decode cX7_shows 32 = .ok (.ifCond .le 7, 3) := dk_158 0 7 (dk_at dksX7_shows_1 8 rfl rfl)
theorem dX7_shows_35 : decode cX7_shows 35 = .ok (.iconst 0, 1) := dk_3 (dk_at dksX7_shows_1 11 rfl rfl)
theorem dX7_shows_36 : decode cX7_shows 36 = .ok (.goto 10, 3) := dk_167 0 10 (dk_at dksX7_shows_1 12 rfl rfl)
theorem dX7_shows_39 : decode cX7_shows 39 = .ok (.aload_n 0, 1) := dk_42 (dk_at dksX7_shows_1 15 rfl rfl)
theorem dX7_shows_40 : decode cX7_shows 40 = .ok (.iload_n 1, 1) := dk_27 (dk_at dksX7_shows_1 16 rfl rfl)
theorem dX7_shows_41 : decode cX7_shows 41 = .ok (.iconst (-1), 1) := dk_2 (dk_at dksX7_shows_1 17 rfl rfl)
theorem dX7_shows_42 : decode cX7_shows 42 = .ok (.iload_n 2, 1) := dk_28 (dk_at dksX7_shows_1 18 rfl rfl)
theorem dX7_shows_43 : decode cX7_shows 43 = .ok (.invokevirtual 259, 3) := dk_182 1 3 (dk_at dksX7_shows_1 19 rfl rfl)
theorem dX7_shows_46 : decode cX7_shows 46 = .ok (.ireturn, 1) := dk_172 (dk_at dksX7_shows_1 22 rfl rfl)
abbrev cX7_shown : ByteArray := prog_17_method_14_code
def yX7_shown : MethodName := ⟨RX7, "shown", "(III)I"⟩
def dkwX7_shown_14 : List UInt8 := [21, 7, 172]
abbrev dktX7_shown_14 : List UInt8 := dkwX7_shown_14 ++ []
def dkwX7_shown_13 : List UInt8 := [164, 0, 13, 21, 7, 5, 159, 0, 7, 3, 167, 0, 5, 21, 7, 54, 7, 132, 8, 255, 167, 254, 242]
abbrev dktX7_shown_13 : List UInt8 := dkwX7_shown_13 ++ dktX7_shown_14
def dkwX7_shown_12 : List UInt8 := [167, 0, 5, 21, 7, 54, 7, 3, 54, 11, 132, 12, 1, 167, 255, 101, 21, 10, 54, 5, 21, 8, 4]
abbrev dktX7_shown_12 : List UInt8 := dkwX7_shown_12 ++ dktX7_shown_13
def dkwX7_shown_11 : List UInt8 := [180, 0, 19, 21, 15, 46, 54, 16, 21, 7, 154, 0, 17, 21, 14, 4, 160, 0, 11, 16, 10, 21, 16, 96]
abbrev dktX7_shown_11 : List UInt8 := dkwX7_shown_11 ++ dktX7_shown_12
def dkwX7_shown_10 : List UInt8 := [21, 9, 182, 0, 207, 54, 15, 21, 13, 156, 0, 13, 42, 180, 0, 75, 21, 15, 46, 167, 0, 10, 42]
abbrev dktX7_shown_10 : List UInt8 := dkwX7_shown_10 ++ dktX7_shown_11
def dkwX7_shown_9 : List UInt8 := [21, 14, 5, 160, 0, 7, 4, 167, 0, 4, 3, 54, 11, 167, 0, 68, 21, 14, 153, 0, 63, 42, 21, 13]
abbrev dktX7_shown_9 : List UInt8 := dkwX7_shown_9 ++ dktX7_shown_10
def dkwX7_shown_8 : List UInt8 := [21, 14, 5, 159, 0, 9, 21, 14, 6, 160, 0, 31, 5, 54, 7, 21, 10, 4, 21, 12, 120, 128, 54, 10]
abbrev dktX7_shown_8 : List UInt8 := dkwX7_shown_8 ++ dktX7_shown_9
def dkwX7_shown_7 : List UInt8 := [21, 12, 122, 4, 126, 4, 160, 0, 14, 42, 21, 13, 21, 9, 182, 0, 218, 167, 0, 4, 3, 54, 14]
abbrev dktX7_shown_7 : List UInt8 := dkwX7_shown_7 ++ dktX7_shown_8
def dkwX7_shown_6 : List UInt8 := [21, 12, 21, 4, 162, 0, 154, 21, 11, 153, 0, 149, 42, 27, 28, 21, 12, 182, 0, 214, 54, 13, 21, 5]
abbrev dktX7_shown_6 : List UInt8 := dkwX7_shown_6 ++ dktX7_shown_7
def dkwX7_shown_5 : List UInt8 := [160, 0, 7, 29, 167, 0, 5, 21, 9, 54, 9, 3, 54, 10, 4, 54, 11, 3, 54, 7, 3, 54, 12]
abbrev dktX7_shown_5 : List UInt8 := dkwX7_shown_5 ++ dktX7_shown_6
def dkwX7_shown_4 : List UInt8 := [54, 9, 21, 6, 5, 160, 0, 16, 21, 8, 5, 160, 0, 10, 29, 16, 10, 108, 167, 0, 15, 21, 6, 4]
abbrev dktX7_shown_4 : List UInt8 := dkwX7_shown_4 ++ dktX7_shown_5
def dkwX7_shown_3 : List UInt8 := [160, 0, 10, 29, 16, 100, 108, 167, 0, 17, 21, 8, 5, 160, 0, 10, 29, 16, 10, 108, 167, 0, 4, 29]
abbrev dktX7_shown_3 : List UInt8 := dkwX7_shown_3 ++ dktX7_shown_4
def dkwX7_shown_2 : List UInt8 := [54, 6, 5, 54, 7, 21, 6, 54, 8, 21, 8, 158, 1, 15, 21, 7, 5, 160, 1, 9, 21, 8, 6]
abbrev dktX7_shown_2 : List UInt8 := dkwX7_shown_2 ++ dktX7_shown_3
def dkwX7_shown_1 : List UInt8 := [100, 54, 5, 29, 16, 99, 164, 0, 7, 6, 167, 0, 14, 29, 16, 9, 164, 0, 7, 5, 167, 0, 4, 4]
abbrev dktX7_shown_1 : List UInt8 := dkwX7_shown_1 ++ dktX7_shown_2
def dkwX7_shown_0 : List UInt8 := [42, 180, 0, 44, 27, 46, 28, 2, 160, 0, 7, 3, 167, 0, 4, 4, 96, 54, 4, 4, 21, 4, 120, 4]
abbrev dktX7_shown_0 : List UInt8 := dkwX7_shown_0 ++ dktX7_shown_1
theorem dksX7_shown_0 : cX7_shown.data.toList.drop 0 = dktX7_shown_0 := by decide +kernel
theorem dksX7_shown_1 : cX7_shown.data.toList.drop 24 = dktX7_shown_1 := dk_seg dksX7_shown_0 24 rfl rfl
theorem dksX7_shown_2 : cX7_shown.data.toList.drop 48 = dktX7_shown_2 := dk_seg dksX7_shown_1 24 rfl rfl
theorem dksX7_shown_3 : cX7_shown.data.toList.drop 71 = dktX7_shown_3 := dk_seg dksX7_shown_2 23 rfl rfl
theorem dksX7_shown_4 : cX7_shown.data.toList.drop 95 = dktX7_shown_4 := dk_seg dksX7_shown_3 24 rfl rfl
theorem dksX7_shown_5 : cX7_shown.data.toList.drop 119 = dktX7_shown_5 := dk_seg dksX7_shown_4 24 rfl rfl
theorem dksX7_shown_6 : cX7_shown.data.toList.drop 142 = dktX7_shown_6 := dk_seg dksX7_shown_5 23 rfl rfl
theorem dksX7_shown_7 : cX7_shown.data.toList.drop 166 = dktX7_shown_7 := dk_seg dksX7_shown_6 24 rfl rfl
theorem dksX7_shown_8 : cX7_shown.data.toList.drop 189 = dktX7_shown_8 := dk_seg dksX7_shown_7 23 rfl rfl
theorem dksX7_shown_9 : cX7_shown.data.toList.drop 213 = dktX7_shown_9 := dk_seg dksX7_shown_8 24 rfl rfl
theorem dksX7_shown_10 : cX7_shown.data.toList.drop 237 = dktX7_shown_10 := dk_seg dksX7_shown_9 24 rfl rfl
theorem dksX7_shown_11 : cX7_shown.data.toList.drop 260 = dktX7_shown_11 := dk_seg dksX7_shown_10 23 rfl rfl
theorem dksX7_shown_12 : cX7_shown.data.toList.drop 284 = dktX7_shown_12 := dk_seg dksX7_shown_11 24 rfl rfl
theorem dksX7_shown_13 : cX7_shown.data.toList.drop 307 = dktX7_shown_13 := dk_seg dksX7_shown_12 23 rfl rfl
theorem dksX7_shown_14 : cX7_shown.data.toList.drop 330 = dktX7_shown_14 := dk_seg dksX7_shown_13 23 rfl rfl
theorem dX7_shown_0 : decode cX7_shown 0 = .ok (.aload_n 0, 1) := dk_42 (dk_at dksX7_shown_0 0 rfl rfl)
theorem dX7_shown_1 : decode cX7_shown 1 = .ok (.getfield 44, 3) := dk_180 0 44 (dk_at dksX7_shown_0 1 rfl rfl)
theorem dX7_shown_4 : decode cX7_shown 4 = .ok (.iload_n 1, 1) := dk_27 (dk_at dksX7_shown_0 4 rfl rfl)
theorem dX7_shown_5 : decode cX7_shown 5 = .ok (.iaload, 1) := dk_46 (dk_at dksX7_shown_0 5 rfl rfl)
theorem dX7_shown_6 : decode cX7_shown 6 = .ok (.iload_n 2, 1) := dk_28 (dk_at dksX7_shown_0 6 rfl rfl)
theorem dX7_shown_7 : decode cX7_shown 7 = .ok (.iconst (-1), 1) := dk_2 (dk_at dksX7_shown_0 7 rfl rfl)
theorem dX7_shown_8 : decode cX7_shown 8 = .ok (.if_icmp .ne 7, 3) := dk_160 0 7 (dk_at dksX7_shown_0 8 rfl rfl)
theorem dX7_shown_11 : decode cX7_shown 11 = .ok (.iconst 0, 1) := dk_3 (dk_at dksX7_shown_0 11 rfl rfl)
theorem dX7_shown_12 : decode cX7_shown 12 = .ok (.goto 4, 3) := dk_167 0 4 (dk_at dksX7_shown_0 12 rfl rfl)
theorem dX7_shown_15 : decode cX7_shown 15 = .ok (.iconst 1, 1) := dk_4 (dk_at dksX7_shown_0 15 rfl rfl)
theorem dX7_shown_16 : decode cX7_shown 16 = .ok (.iadd, 1) := dk_96 (dk_at dksX7_shown_0 16 rfl rfl)
theorem dX7_shown_17 : decode cX7_shown 17 = .ok (.istore 4, 2) := dk_54 4 (dk_at dksX7_shown_0 17 rfl rfl)
theorem dX7_shown_19 : decode cX7_shown 19 = .ok (.iconst 1, 1) := dk_4 (dk_at dksX7_shown_0 19 rfl rfl)
theorem dX7_shown_20 : decode cX7_shown 20 = .ok (.iload 4, 2) := dk_21 4 (dk_at dksX7_shown_0 20 rfl rfl)
theorem dX7_shown_22 : decode cX7_shown 22 = .ok (.ishl, 1) := dk_120 (dk_at dksX7_shown_0 22 rfl rfl)
theorem dX7_shown_23 : decode cX7_shown 23 = .ok (.iconst 1, 1) := dk_4 (dk_at dksX7_shown_0 23 rfl rfl)
theorem dX7_shown_24 : decode cX7_shown 24 = .ok (.isub, 1) := dk_100 (dk_at dksX7_shown_1 0 rfl rfl)
theorem dX7_shown_25 : decode cX7_shown 25 = .ok (.istore 5, 2) := dk_54 5 (dk_at dksX7_shown_1 1 rfl rfl)
theorem dX7_shown_27 : decode cX7_shown 27 = .ok (.iload_n 3, 1) := dk_29 (dk_at dksX7_shown_1 3 rfl rfl)
theorem dX7_shown_28 : decode cX7_shown 28 = .ok (.bipush 99, 2) := dk_16 99 (dk_at dksX7_shown_1 4 rfl rfl)
theorem dX7_shown_30 : decode cX7_shown 30 = .ok (.if_icmp .le 7, 3) := dk_164 0 7 (dk_at dksX7_shown_1 6 rfl rfl)
theorem dX7_shown_33 : decode cX7_shown 33 = .ok (.iconst 3, 1) := dk_6 (dk_at dksX7_shown_1 9 rfl rfl)
theorem dX7_shown_34 : decode cX7_shown 34 = .ok (.goto 14, 3) := dk_167 0 14 (dk_at dksX7_shown_1 10 rfl rfl)
theorem dX7_shown_37 : decode cX7_shown 37 = .ok (.iload_n 3, 1) := dk_29 (dk_at dksX7_shown_1 13 rfl rfl)
theorem dX7_shown_38 : decode cX7_shown 38 = .ok (.bipush 9, 2) := dk_16 9 (dk_at dksX7_shown_1 14 rfl rfl)
theorem dX7_shown_40 : decode cX7_shown 40 = .ok (.if_icmp .le 7, 3) := dk_164 0 7 (dk_at dksX7_shown_1 16 rfl rfl)
theorem dX7_shown_43 : decode cX7_shown 43 = .ok (.iconst 2, 1) := dk_5 (dk_at dksX7_shown_1 19 rfl rfl)
theorem dX7_shown_44 : decode cX7_shown 44 = .ok (.goto 4, 3) := dk_167 0 4 (dk_at dksX7_shown_1 20 rfl rfl)
theorem dX7_shown_47 : decode cX7_shown 47 = .ok (.iconst 1, 1) := dk_4 (dk_at dksX7_shown_1 23 rfl rfl)
theorem dX7_shown_48 : decode cX7_shown 48 = .ok (.istore 6, 2) := dk_54 6 (dk_at dksX7_shown_2 0 rfl rfl)
theorem dX7_shown_50 : decode cX7_shown 50 = .ok (.iconst 2, 1) := dk_5 (dk_at dksX7_shown_2 2 rfl rfl)
theorem dX7_shown_51 : decode cX7_shown 51 = .ok (.istore 7, 2) := dk_54 7 (dk_at dksX7_shown_2 3 rfl rfl)
theorem dX7_shown_53 : decode cX7_shown 53 = .ok (.iload 6, 2) := dk_21 6 (dk_at dksX7_shown_2 5 rfl rfl)
theorem dX7_shown_55 : decode cX7_shown 55 = .ok (.istore 8, 2) := dk_54 8 (dk_at dksX7_shown_2 7 rfl rfl)
theorem dX7_shown_57 : decode cX7_shown 57 = .ok (.iload 8, 2) := dk_21 8 (dk_at dksX7_shown_2 9 rfl rfl)
theorem dX7_shown_59 : decode cX7_shown 59 = .ok (.ifCond .le 271, 3) := dk_158 1 15 (dk_at dksX7_shown_2 11 rfl rfl)
theorem dX7_shown_62 : decode cX7_shown 62 = .ok (.iload 7, 2) := dk_21 7 (dk_at dksX7_shown_2 14 rfl rfl)
theorem dX7_shown_64 : decode cX7_shown 64 = .ok (.iconst 2, 1) := dk_5 (dk_at dksX7_shown_2 16 rfl rfl)
theorem dX7_shown_65 : decode cX7_shown 65 = .ok (.if_icmp .ne 265, 3) := dk_160 1 9 (dk_at dksX7_shown_2 17 rfl rfl)
theorem dX7_shown_68 : decode cX7_shown 68 = .ok (.iload 8, 2) := dk_21 8 (dk_at dksX7_shown_2 20 rfl rfl)
theorem dX7_shown_70 : decode cX7_shown 70 = .ok (.iconst 3, 1) := dk_6 (dk_at dksX7_shown_2 22 rfl rfl)
theorem dX7_shown_71 : decode cX7_shown 71 = .ok (.if_icmp .ne 10, 3) := dk_160 0 10 (dk_at dksX7_shown_3 0 rfl rfl)
theorem dX7_shown_74 : decode cX7_shown 74 = .ok (.iload_n 3, 1) := dk_29 (dk_at dksX7_shown_3 3 rfl rfl)
theorem dX7_shown_75 : decode cX7_shown 75 = .ok (.bipush 100, 2) := dk_16 100 (dk_at dksX7_shown_3 4 rfl rfl)
theorem dX7_shown_77 : decode cX7_shown 77 = .ok (.idiv, 1) := dk_108 (dk_at dksX7_shown_3 6 rfl rfl)
theorem dX7_shown_78 : decode cX7_shown 78 = .ok (.goto 17, 3) := dk_167 0 17 (dk_at dksX7_shown_3 7 rfl rfl)
theorem dX7_shown_81 : decode cX7_shown 81 = .ok (.iload 8, 2) := dk_21 8 (dk_at dksX7_shown_3 10 rfl rfl)
theorem dX7_shown_83 : decode cX7_shown 83 = .ok (.iconst 2, 1) := dk_5 (dk_at dksX7_shown_3 12 rfl rfl)
theorem dX7_shown_84 : decode cX7_shown 84 = .ok (.if_icmp .ne 10, 3) := dk_160 0 10 (dk_at dksX7_shown_3 13 rfl rfl)
theorem dX7_shown_87 : decode cX7_shown 87 = .ok (.iload_n 3, 1) := dk_29 (dk_at dksX7_shown_3 16 rfl rfl)
theorem dX7_shown_88 : decode cX7_shown 88 = .ok (.bipush 10, 2) := dk_16 10 (dk_at dksX7_shown_3 17 rfl rfl)
theorem dX7_shown_90 : decode cX7_shown 90 = .ok (.idiv, 1) := dk_108 (dk_at dksX7_shown_3 19 rfl rfl)
theorem dX7_shown_91 : decode cX7_shown 91 = .ok (.goto 4, 3) := dk_167 0 4 (dk_at dksX7_shown_3 20 rfl rfl)
theorem dX7_shown_94 : decode cX7_shown 94 = .ok (.iload_n 3, 1) := dk_29 (dk_at dksX7_shown_3 23 rfl rfl)
theorem dX7_shown_95 : decode cX7_shown 95 = .ok (.istore 9, 2) := dk_54 9 (dk_at dksX7_shown_4 0 rfl rfl)
theorem dX7_shown_97 : decode cX7_shown 97 = .ok (.iload 6, 2) := dk_21 6 (dk_at dksX7_shown_4 2 rfl rfl)
theorem dX7_shown_99 : decode cX7_shown 99 = .ok (.iconst 2, 1) := dk_5 (dk_at dksX7_shown_4 4 rfl rfl)
theorem dX7_shown_100 : decode cX7_shown 100 = .ok (.if_icmp .ne 16, 3) := dk_160 0 16 (dk_at dksX7_shown_4 5 rfl rfl)
theorem dX7_shown_103 : decode cX7_shown 103 = .ok (.iload 8, 2) := dk_21 8 (dk_at dksX7_shown_4 8 rfl rfl)
theorem dX7_shown_105 : decode cX7_shown 105 = .ok (.iconst 2, 1) := dk_5 (dk_at dksX7_shown_4 10 rfl rfl)
theorem dX7_shown_106 : decode cX7_shown 106 = .ok (.if_icmp .ne 10, 3) := dk_160 0 10 (dk_at dksX7_shown_4 11 rfl rfl)
theorem dX7_shown_109 : decode cX7_shown 109 = .ok (.iload_n 3, 1) := dk_29 (dk_at dksX7_shown_4 14 rfl rfl)
theorem dX7_shown_110 : decode cX7_shown 110 = .ok (.bipush 10, 2) := dk_16 10 (dk_at dksX7_shown_4 15 rfl rfl)
theorem dX7_shown_112 : decode cX7_shown 112 = .ok (.idiv, 1) := dk_108 (dk_at dksX7_shown_4 17 rfl rfl)
theorem dX7_shown_113 : decode cX7_shown 113 = .ok (.goto 15, 3) := dk_167 0 15 (dk_at dksX7_shown_4 18 rfl rfl)
theorem dX7_shown_116 : decode cX7_shown 116 = .ok (.iload 6, 2) := dk_21 6 (dk_at dksX7_shown_4 21 rfl rfl)
theorem dX7_shown_118 : decode cX7_shown 118 = .ok (.iconst 1, 1) := dk_4 (dk_at dksX7_shown_4 23 rfl rfl)
theorem dX7_shown_119 : decode cX7_shown 119 = .ok (.if_icmp .ne 7, 3) := dk_160 0 7 (dk_at dksX7_shown_5 0 rfl rfl)
theorem dX7_shown_122 : decode cX7_shown 122 = .ok (.iload_n 3, 1) := dk_29 (dk_at dksX7_shown_5 3 rfl rfl)
theorem dX7_shown_123 : decode cX7_shown 123 = .ok (.goto 5, 3) := dk_167 0 5 (dk_at dksX7_shown_5 4 rfl rfl)
theorem dX7_shown_126 : decode cX7_shown 126 = .ok (.iload 9, 2) := dk_21 9 (dk_at dksX7_shown_5 7 rfl rfl)
theorem dX7_shown_128 : decode cX7_shown 128 = .ok (.istore 9, 2) := dk_54 9 (dk_at dksX7_shown_5 9 rfl rfl)
theorem dX7_shown_130 : decode cX7_shown 130 = .ok (.iconst 0, 1) := dk_3 (dk_at dksX7_shown_5 11 rfl rfl)
theorem dX7_shown_131 : decode cX7_shown 131 = .ok (.istore 10, 2) := dk_54 10 (dk_at dksX7_shown_5 12 rfl rfl)
theorem dX7_shown_133 : decode cX7_shown 133 = .ok (.iconst 1, 1) := dk_4 (dk_at dksX7_shown_5 14 rfl rfl)
theorem dX7_shown_134 : decode cX7_shown 134 = .ok (.istore 11, 2) := dk_54 11 (dk_at dksX7_shown_5 15 rfl rfl)
theorem dX7_shown_136 : decode cX7_shown 136 = .ok (.iconst 0, 1) := dk_3 (dk_at dksX7_shown_5 17 rfl rfl)
theorem dX7_shown_137 : decode cX7_shown 137 = .ok (.istore 7, 2) := dk_54 7 (dk_at dksX7_shown_5 18 rfl rfl)
theorem dX7_shown_139 : decode cX7_shown 139 = .ok (.iconst 0, 1) := dk_3 (dk_at dksX7_shown_5 20 rfl rfl)
theorem dX7_shown_140 : decode cX7_shown 140 = .ok (.istore 12, 2) := dk_54 12 (dk_at dksX7_shown_5 21 rfl rfl)
theorem dX7_shown_142 : decode cX7_shown 142 = .ok (.iload 12, 2) := dk_21 12 (dk_at dksX7_shown_6 0 rfl rfl)
theorem dX7_shown_144 : decode cX7_shown 144 = .ok (.iload 4, 2) := dk_21 4 (dk_at dksX7_shown_6 2 rfl rfl)
theorem dX7_shown_146 : decode cX7_shown 146 = .ok (.if_icmp .ge 154, 3) := dk_162 0 154 (dk_at dksX7_shown_6 4 rfl rfl)
theorem dX7_shown_149 : decode cX7_shown 149 = .ok (.iload 11, 2) := dk_21 11 (dk_at dksX7_shown_6 7 rfl rfl)
theorem dX7_shown_151 : decode cX7_shown 151 = .ok (.ifCond .eq 149, 3) := dk_153 0 149 (dk_at dksX7_shown_6 9 rfl rfl)
theorem dX7_shown_154 : decode cX7_shown 154 = .ok (.aload_n 0, 1) := dk_42 (dk_at dksX7_shown_6 12 rfl rfl)
theorem dX7_shown_155 : decode cX7_shown 155 = .ok (.iload_n 1, 1) := dk_27 (dk_at dksX7_shown_6 13 rfl rfl)
theorem dX7_shown_156 : decode cX7_shown 156 = .ok (.iload_n 2, 1) := dk_28 (dk_at dksX7_shown_6 14 rfl rfl)
theorem dX7_shown_157 : decode cX7_shown 157 = .ok (.iload 12, 2) := dk_21 12 (dk_at dksX7_shown_6 15 rfl rfl)
theorem dX7_shown_159 : decode cX7_shown 159 = .ok (.invokevirtual 214, 3) := dk_182 0 214 (dk_at dksX7_shown_6 17 rfl rfl)
theorem dX7_shown_162 : decode cX7_shown 162 = .ok (.istore 13, 2) := dk_54 13 (dk_at dksX7_shown_6 20 rfl rfl)
theorem dX7_shown_164 : decode cX7_shown 164 = .ok (.iload 5, 2) := dk_21 5 (dk_at dksX7_shown_6 22 rfl rfl)
theorem dX7_shown_166 : decode cX7_shown 166 = .ok (.iload 12, 2) := dk_21 12 (dk_at dksX7_shown_7 0 rfl rfl)
theorem dX7_shown_168 : decode cX7_shown 168 = .ok (.ishr, 1) := dk_122 (dk_at dksX7_shown_7 2 rfl rfl)
theorem dX7_shown_169 : decode cX7_shown 169 = .ok (.iconst 1, 1) := dk_4 (dk_at dksX7_shown_7 3 rfl rfl)
theorem dX7_shown_170 : decode cX7_shown 170 = .ok (.iand, 1) := dk_126 (dk_at dksX7_shown_7 4 rfl rfl)
theorem dX7_shown_171 : decode cX7_shown 171 = .ok (.iconst 1, 1) := dk_4 (dk_at dksX7_shown_7 5 rfl rfl)
theorem dX7_shown_172 : decode cX7_shown 172 = .ok (.if_icmp .ne 14, 3) := dk_160 0 14 (dk_at dksX7_shown_7 6 rfl rfl)
theorem dX7_shown_175 : decode cX7_shown 175 = .ok (.aload_n 0, 1) := dk_42 (dk_at dksX7_shown_7 9 rfl rfl)
theorem dX7_shown_176 : decode cX7_shown 176 = .ok (.iload 13, 2) := dk_21 13 (dk_at dksX7_shown_7 10 rfl rfl)
theorem dX7_shown_178 : decode cX7_shown 178 = .ok (.iload 9, 2) := dk_21 9 (dk_at dksX7_shown_7 12 rfl rfl)
theorem dX7_shown_180 : decode cX7_shown 180 = .ok (.invokevirtual 218, 3) := dk_182 0 218 (dk_at dksX7_shown_7 14 rfl rfl)
theorem dX7_shown_183 : decode cX7_shown 183 = .ok (.goto 4, 3) := dk_167 0 4 (dk_at dksX7_shown_7 17 rfl rfl)
theorem dX7_shown_186 : decode cX7_shown 186 = .ok (.iconst 0, 1) := dk_3 (dk_at dksX7_shown_7 20 rfl rfl)
theorem dX7_shown_187 : decode cX7_shown 187 = .ok (.istore 14, 2) := dk_54 14 (dk_at dksX7_shown_7 21 rfl rfl)
theorem dX7_shown_189 : decode cX7_shown 189 = .ok (.iload 14, 2) := dk_21 14 (dk_at dksX7_shown_8 0 rfl rfl)
theorem dX7_shown_191 : decode cX7_shown 191 = .ok (.iconst 2, 1) := dk_5 (dk_at dksX7_shown_8 2 rfl rfl)
theorem dX7_shown_192 : decode cX7_shown 192 = .ok (.if_icmp .eq 9, 3) := dk_159 0 9 (dk_at dksX7_shown_8 3 rfl rfl)
theorem dX7_shown_195 : decode cX7_shown 195 = .ok (.iload 14, 2) := dk_21 14 (dk_at dksX7_shown_8 6 rfl rfl)
theorem dX7_shown_197 : decode cX7_shown 197 = .ok (.iconst 3, 1) := dk_6 (dk_at dksX7_shown_8 8 rfl rfl)
theorem dX7_shown_198 : decode cX7_shown 198 = .ok (.if_icmp .ne 31, 3) := dk_160 0 31 (dk_at dksX7_shown_8 9 rfl rfl)
theorem dX7_shown_201 : decode cX7_shown 201 = .ok (.iconst 2, 1) := dk_5 (dk_at dksX7_shown_8 12 rfl rfl)
theorem dX7_shown_202 : decode cX7_shown 202 = .ok (.istore 7, 2) := dk_54 7 (dk_at dksX7_shown_8 13 rfl rfl)
theorem dX7_shown_204 : decode cX7_shown 204 = .ok (.iload 10, 2) := dk_21 10 (dk_at dksX7_shown_8 15 rfl rfl)
theorem dX7_shown_206 : decode cX7_shown 206 = .ok (.iconst 1, 1) := dk_4 (dk_at dksX7_shown_8 17 rfl rfl)
theorem dX7_shown_207 : decode cX7_shown 207 = .ok (.iload 12, 2) := dk_21 12 (dk_at dksX7_shown_8 18 rfl rfl)
theorem dX7_shown_209 : decode cX7_shown 209 = .ok (.ishl, 1) := dk_120 (dk_at dksX7_shown_8 20 rfl rfl)
theorem dX7_shown_210 : decode cX7_shown 210 = .ok (.ior, 1) := dk_128 (dk_at dksX7_shown_8 21 rfl rfl)
theorem dX7_shown_211 : decode cX7_shown 211 = .ok (.istore 10, 2) := dk_54 10 (dk_at dksX7_shown_8 22 rfl rfl)
theorem dX7_shown_213 : decode cX7_shown 213 = .ok (.iload 14, 2) := dk_21 14 (dk_at dksX7_shown_9 0 rfl rfl)
theorem dX7_shown_215 : decode cX7_shown 215 = .ok (.iconst 2, 1) := dk_5 (dk_at dksX7_shown_9 2 rfl rfl)
theorem dX7_shown_216 : decode cX7_shown 216 = .ok (.if_icmp .ne 7, 3) := dk_160 0 7 (dk_at dksX7_shown_9 3 rfl rfl)
theorem dX7_shown_219 : decode cX7_shown 219 = .ok (.iconst 1, 1) := dk_4 (dk_at dksX7_shown_9 6 rfl rfl)
theorem dX7_shown_220 : decode cX7_shown 220 = .ok (.goto 4, 3) := dk_167 0 4 (dk_at dksX7_shown_9 7 rfl rfl)
theorem dX7_shown_223 : decode cX7_shown 223 = .ok (.iconst 0, 1) := dk_3 (dk_at dksX7_shown_9 10 rfl rfl)
theorem dX7_shown_224 : decode cX7_shown 224 = .ok (.istore 11, 2) := dk_54 11 (dk_at dksX7_shown_9 11 rfl rfl)
theorem dX7_shown_226 : decode cX7_shown 226 = .ok (.goto 68, 3) := dk_167 0 68 (dk_at dksX7_shown_9 13 rfl rfl)
theorem dX7_shown_229 : decode cX7_shown 229 = .ok (.iload 14, 2) := dk_21 14 (dk_at dksX7_shown_9 16 rfl rfl)
theorem dX7_shown_231 : decode cX7_shown 231 = .ok (.ifCond .eq 63, 3) := dk_153 0 63 (dk_at dksX7_shown_9 18 rfl rfl)
theorem dX7_shown_234 : decode cX7_shown 234 = .ok (.aload_n 0, 1) := dk_42 (dk_at dksX7_shown_9 21 rfl rfl)
theorem dX7_shown_235 : decode cX7_shown 235 = .ok (.iload 13, 2) := dk_21 13 (dk_at dksX7_shown_9 22 rfl rfl)
theorem dX7_shown_237 : decode cX7_shown 237 = .ok (.iload 9, 2) := dk_21 9 (dk_at dksX7_shown_10 0 rfl rfl)
theorem dX7_shown_239 : decode cX7_shown 239 = .ok (.invokevirtual 207, 3) := dk_182 0 207 (dk_at dksX7_shown_10 2 rfl rfl)
theorem dX7_shown_242 : decode cX7_shown 242 = .ok (.istore 15, 2) := dk_54 15 (dk_at dksX7_shown_10 5 rfl rfl)
theorem dX7_shown_244 : decode cX7_shown 244 = .ok (.iload 13, 2) := dk_21 13 (dk_at dksX7_shown_10 7 rfl rfl)
theorem dX7_shown_246 : decode cX7_shown 246 = .ok (.ifCond .ge 13, 3) := dk_156 0 13 (dk_at dksX7_shown_10 9 rfl rfl)
theorem dX7_shown_249 : decode cX7_shown 249 = .ok (.aload_n 0, 1) := dk_42 (dk_at dksX7_shown_10 12 rfl rfl)
theorem dX7_shown_250 : decode cX7_shown 250 = .ok (.getfield 75, 3) := dk_180 0 75 (dk_at dksX7_shown_10 13 rfl rfl)
theorem dX7_shown_253 : decode cX7_shown 253 = .ok (.iload 15, 2) := dk_21 15 (dk_at dksX7_shown_10 16 rfl rfl)
theorem dX7_shown_255 : decode cX7_shown 255 = .ok (.iaload, 1) := dk_46 (dk_at dksX7_shown_10 18 rfl rfl)
theorem dX7_shown_256 : decode cX7_shown 256 = .ok (.goto 10, 3) := dk_167 0 10 (dk_at dksX7_shown_10 19 rfl rfl)
theorem dX7_shown_259 : decode cX7_shown 259 = .ok (.aload_n 0, 1) := dk_42 (dk_at dksX7_shown_10 22 rfl rfl)
theorem dX7_shown_260 : decode cX7_shown 260 = .ok (.getfield 19, 3) := dk_180 0 19 (dk_at dksX7_shown_11 0 rfl rfl)
theorem dX7_shown_263 : decode cX7_shown 263 = .ok (.iload 15, 2) := dk_21 15 (dk_at dksX7_shown_11 3 rfl rfl)
theorem dX7_shown_265 : decode cX7_shown 265 = .ok (.iaload, 1) := dk_46 (dk_at dksX7_shown_11 5 rfl rfl)
theorem dX7_shown_266 : decode cX7_shown 266 = .ok (.istore 16, 2) := dk_54 16 (dk_at dksX7_shown_11 6 rfl rfl)
theorem dX7_shown_268 : decode cX7_shown 268 = .ok (.iload 7, 2) := dk_21 7 (dk_at dksX7_shown_11 8 rfl rfl)
theorem dX7_shown_270 : decode cX7_shown 270 = .ok (.ifCond .ne 17, 3) := dk_154 0 17 (dk_at dksX7_shown_11 10 rfl rfl)
theorem dX7_shown_273 : decode cX7_shown 273 = .ok (.iload 14, 2) := dk_21 14 (dk_at dksX7_shown_11 13 rfl rfl)
theorem dX7_shown_275 : decode cX7_shown 275 = .ok (.iconst 1, 1) := dk_4 (dk_at dksX7_shown_11 15 rfl rfl)
theorem dX7_shown_276 : decode cX7_shown 276 = .ok (.if_icmp .ne 11, 3) := dk_160 0 11 (dk_at dksX7_shown_11 16 rfl rfl)
theorem dX7_shown_279 : decode cX7_shown 279 = .ok (.bipush 10, 2) := dk_16 10 (dk_at dksX7_shown_11 19 rfl rfl)
theorem dX7_shown_281 : decode cX7_shown 281 = .ok (.iload 16, 2) := dk_21 16 (dk_at dksX7_shown_11 21 rfl rfl)
theorem dX7_shown_283 : decode cX7_shown 283 = .ok (.iadd, 1) := dk_96 (dk_at dksX7_shown_11 23 rfl rfl)
theorem dX7_shown_284 : decode cX7_shown 284 = .ok (.goto 5, 3) := dk_167 0 5 (dk_at dksX7_shown_12 0 rfl rfl)
theorem dX7_shown_287 : decode cX7_shown 287 = .ok (.iload 7, 2) := dk_21 7 (dk_at dksX7_shown_12 3 rfl rfl)
theorem dX7_shown_289 : decode cX7_shown 289 = .ok (.istore 7, 2) := dk_54 7 (dk_at dksX7_shown_12 5 rfl rfl)
theorem dX7_shown_291 : decode cX7_shown 291 = .ok (.iconst 0, 1) := dk_3 (dk_at dksX7_shown_12 7 rfl rfl)
theorem dX7_shown_292 : decode cX7_shown 292 = .ok (.istore 11, 2) := dk_54 11 (dk_at dksX7_shown_12 8 rfl rfl)
theorem dX7_shown_294 : decode cX7_shown 294 = .ok (.iinc 12 1, 3) := dk_132 12 1 (dk_at dksX7_shown_12 10 rfl rfl)
theorem dX7_shown_297 : decode cX7_shown 297 = .ok (.goto (-155), 3) := dk_167 255 101 (dk_at dksX7_shown_12 13 rfl rfl)
theorem dX7_shown_300 : decode cX7_shown 300 = .ok (.iload 10, 2) := dk_21 10 (dk_at dksX7_shown_12 16 rfl rfl)
theorem dX7_shown_302 : decode cX7_shown 302 = .ok (.istore 5, 2) := dk_54 5 (dk_at dksX7_shown_12 18 rfl rfl)
theorem dX7_shown_304 : decode cX7_shown 304 = .ok (.iload 8, 2) := dk_21 8 (dk_at dksX7_shown_12 20 rfl rfl)
theorem dX7_shown_306 : decode cX7_shown 306 = .ok (.iconst 1, 1) := dk_4 (dk_at dksX7_shown_12 22 rfl rfl)
theorem dX7_shown_307 : decode cX7_shown 307 = .ok (.if_icmp .le 13, 3) := dk_164 0 13 (dk_at dksX7_shown_13 0 rfl rfl)
theorem dX7_shown_310 : decode cX7_shown 310 = .ok (.iload 7, 2) := dk_21 7 (dk_at dksX7_shown_13 3 rfl rfl)
theorem dX7_shown_312 : decode cX7_shown 312 = .ok (.iconst 2, 1) := dk_5 (dk_at dksX7_shown_13 5 rfl rfl)
theorem dX7_shown_313 : decode cX7_shown 313 = .ok (.if_icmp .eq 7, 3) := dk_159 0 7 (dk_at dksX7_shown_13 6 rfl rfl)
theorem dX7_shown_316 : decode cX7_shown 316 = .ok (.iconst 0, 1) := dk_3 (dk_at dksX7_shown_13 9 rfl rfl)
theorem dX7_shown_317 : decode cX7_shown 317 = .ok (.goto 5, 3) := dk_167 0 5 (dk_at dksX7_shown_13 10 rfl rfl)
theorem dX7_shown_320 : decode cX7_shown 320 = .ok (.iload 7, 2) := dk_21 7 (dk_at dksX7_shown_13 13 rfl rfl)
theorem dX7_shown_322 : decode cX7_shown 322 = .ok (.istore 7, 2) := dk_54 7 (dk_at dksX7_shown_13 15 rfl rfl)
theorem dX7_shown_324 : decode cX7_shown 324 = .ok (.iinc 8 (-1), 3) := dk_132 8 255 (dk_at dksX7_shown_13 17 rfl rfl)
theorem dX7_shown_327 : decode cX7_shown 327 = .ok (.goto (-270), 3) := dk_167 254 242 (dk_at dksX7_shown_13 20 rfl rfl)
theorem dX7_shown_330 : decode cX7_shown 330 = .ok (.iload 7, 2) := dk_21 7 (dk_at dksX7_shown_14 0 rfl rfl)
theorem dX7_shown_332 : decode cX7_shown 332 = .ok (.ireturn, 1) := dk_172 (dk_at dksX7_shown_14 2 rfl rfl)
abbrev cX7_sourceAt : ByteArray := prog_17_method_13_code
def yX7_sourceAt : MethodName := ⟨RX7, "sourceAt", "(III)I"⟩
def dkwX7_sourceAt_1 : List UInt8 := [180, 0, 44, 27, 46, 96, 4, 100, 28, 2, 160, 0, 7, 29, 167, 0, 6, 29, 4, 100, 100, 46, 172]
abbrev dktX7_sourceAt_1 : List UInt8 := dkwX7_sourceAt_1 ++ []
def dkwX7_sourceAt_0 : List UInt8 := [28, 2, 159, 0, 13, 29, 154, 0, 9, 2, 28, 100, 167, 0, 33, 42, 180, 0, 47, 8, 27, 104, 42]
abbrev dktX7_sourceAt_0 : List UInt8 := dkwX7_sourceAt_0 ++ dktX7_sourceAt_1
theorem dksX7_sourceAt_0 : cX7_sourceAt.data.toList.drop 0 = dktX7_sourceAt_0 := by decide +kernel
theorem dksX7_sourceAt_1 : cX7_sourceAt.data.toList.drop 23 = dktX7_sourceAt_1 := dk_seg dksX7_sourceAt_0 23 rfl rfl
theorem dX7_sourceAt_0 : decode cX7_sourceAt 0 = .ok (.iload_n 2, 1) := dk_28 (dk_at dksX7_sourceAt_0 0 rfl rfl)
theorem dX7_sourceAt_1 : decode cX7_sourceAt 1 = .ok (.iconst (-1), 1) := dk_2 (dk_at dksX7_sourceAt_0 1 rfl rfl)
theorem dX7_sourceAt_2 : decode cX7_sourceAt 2 = .ok (.if_icmp .eq 13, 3) := dk_159 0 13 (dk_at dksX7_sourceAt_0 2 rfl rfl)
theorem dX7_sourceAt_5 : decode cX7_sourceAt 5 = .ok (.iload_n 3, 1) := dk_29 (dk_at dksX7_sourceAt_0 5 rfl rfl)
theorem dX7_sourceAt_6 : decode cX7_sourceAt 6 = .ok (.ifCond .ne 9, 3) := dk_154 0 9 (dk_at dksX7_sourceAt_0 6 rfl rfl)
theorem dX7_sourceAt_9 : decode cX7_sourceAt 9 = .ok (.iconst (-1), 1) := dk_2 (dk_at dksX7_sourceAt_0 9 rfl rfl)
theorem dX7_sourceAt_10 : decode cX7_sourceAt 10 = .ok (.iload_n 2, 1) := dk_28 (dk_at dksX7_sourceAt_0 10 rfl rfl)
theorem dX7_sourceAt_11 : decode cX7_sourceAt 11 = .ok (.isub, 1) := dk_100 (dk_at dksX7_sourceAt_0 11 rfl rfl)
theorem dX7_sourceAt_12 : decode cX7_sourceAt 12 = .ok (.goto 33, 3) := dk_167 0 33 (dk_at dksX7_sourceAt_0 12 rfl rfl)
theorem dX7_sourceAt_15 : decode cX7_sourceAt 15 = .ok (.aload_n 0, 1) := dk_42 (dk_at dksX7_sourceAt_0 15 rfl rfl)
theorem dX7_sourceAt_16 : decode cX7_sourceAt 16 = .ok (.getfield 47, 3) := dk_180 0 47 (dk_at dksX7_sourceAt_0 16 rfl rfl)
theorem dX7_sourceAt_19 : decode cX7_sourceAt 19 = .ok (.iconst 5, 1) := dk_8 (dk_at dksX7_sourceAt_0 19 rfl rfl)
theorem dX7_sourceAt_20 : decode cX7_sourceAt 20 = .ok (.iload_n 1, 1) := dk_27 (dk_at dksX7_sourceAt_0 20 rfl rfl)
theorem dX7_sourceAt_21 : decode cX7_sourceAt 21 = .ok (.imul, 1) := dk_104 (dk_at dksX7_sourceAt_0 21 rfl rfl)
theorem dX7_sourceAt_22 : decode cX7_sourceAt 22 = .ok (.aload_n 0, 1) := dk_42 (dk_at dksX7_sourceAt_0 22 rfl rfl)
theorem dX7_sourceAt_23 : decode cX7_sourceAt 23 = .ok (.getfield 44, 3) := dk_180 0 44 (dk_at dksX7_sourceAt_1 0 rfl rfl)
theorem dX7_sourceAt_26 : decode cX7_sourceAt 26 = .ok (.iload_n 1, 1) := dk_27 (dk_at dksX7_sourceAt_1 3 rfl rfl)
theorem dX7_sourceAt_27 : decode cX7_sourceAt 27 = .ok (.iaload, 1) := dk_46 (dk_at dksX7_sourceAt_1 4 rfl rfl)
theorem dX7_sourceAt_28 : decode cX7_sourceAt 28 = .ok (.iadd, 1) := dk_96 (dk_at dksX7_sourceAt_1 5 rfl rfl)
theorem dX7_sourceAt_29 : decode cX7_sourceAt 29 = .ok (.iconst 1, 1) := dk_4 (dk_at dksX7_sourceAt_1 6 rfl rfl)
theorem dX7_sourceAt_30 : decode cX7_sourceAt 30 = .ok (.isub, 1) := dk_100 (dk_at dksX7_sourceAt_1 7 rfl rfl)
theorem dX7_sourceAt_31 : decode cX7_sourceAt 31 = .ok (.iload_n 2, 1) := dk_28 (dk_at dksX7_sourceAt_1 8 rfl rfl)
theorem dX7_sourceAt_32 : decode cX7_sourceAt 32 = .ok (.iconst (-1), 1) := dk_2 (dk_at dksX7_sourceAt_1 9 rfl rfl)
theorem dX7_sourceAt_33 : decode cX7_sourceAt 33 = .ok (.if_icmp .ne 7, 3) := dk_160 0 7 (dk_at dksX7_sourceAt_1 10 rfl rfl)
theorem dX7_sourceAt_36 : decode cX7_sourceAt 36 = .ok (.iload_n 3, 1) := dk_29 (dk_at dksX7_sourceAt_1 13 rfl rfl)
theorem dX7_sourceAt_37 : decode cX7_sourceAt 37 = .ok (.goto 6, 3) := dk_167 0 6 (dk_at dksX7_sourceAt_1 14 rfl rfl)
theorem dX7_sourceAt_40 : decode cX7_sourceAt 40 = .ok (.iload_n 3, 1) := dk_29 (dk_at dksX7_sourceAt_1 17 rfl rfl)
theorem dX7_sourceAt_41 : decode cX7_sourceAt 41 = .ok (.iconst 1, 1) := dk_4 (dk_at dksX7_sourceAt_1 18 rfl rfl)
theorem dX7_sourceAt_42 : decode cX7_sourceAt 42 = .ok (.isub, 1) := dk_100 (dk_at dksX7_sourceAt_1 19 rfl rfl)
theorem dX7_sourceAt_43 : decode cX7_sourceAt 43 = .ok (.isub, 1) := dk_100 (dk_at dksX7_sourceAt_1 20 rfl rfl)
theorem dX7_sourceAt_44 : decode cX7_sourceAt 44 = .ok (.iaload, 1) := dk_46 (dk_at dksX7_sourceAt_1 21 rfl rfl)
theorem dX7_sourceAt_45 : decode cX7_sourceAt 45 = .ok (.ireturn, 1) := dk_172 (dk_at dksX7_sourceAt_1 22 rfl rfl)
abbrev cX7_kindOf : ByteArray := prog_17_method_12_code
def yX7_kindOf : MethodName := ⟨RX7, "kindOf", "(II)I"⟩
def dkwX7_kindOf_3 : List UInt8 := [153, 0, 7, 5, 167, 0, 5, 21, 4, 54, 4, 132, 5, 1, 167, 255, 215, 21, 4, 172]
abbrev dktX7_kindOf_3 : List UInt8 := dkwX7_kindOf_3 ++ []
def dkwX7_kindOf_2 : List UInt8 := [182, 0, 196, 42, 27, 182, 0, 200, 96, 162, 0, 31, 42, 27, 21, 5, 182, 0, 203, 28, 184, 0, 210]
abbrev dktX7_kindOf_2 : List UInt8 := dkwX7_kindOf_2 ++ dktX7_kindOf_3
def dkwX7_kindOf_1 : List UInt8 := [167, 0, 9, 42, 180, 0, 16, 29, 46, 172, 3, 54, 4, 42, 27, 182, 0, 196, 54, 5, 21, 5, 42, 27]
abbrev dktX7_kindOf_1 : List UInt8 := dkwX7_kindOf_1 ++ dktX7_kindOf_2
def dkwX7_kindOf_0 : List UInt8 := [42, 27, 28, 182, 0, 207, 62, 29, 2, 159, 0, 23, 27, 156, 0, 12, 42, 180, 0, 72, 29, 46]
abbrev dktX7_kindOf_0 : List UInt8 := dkwX7_kindOf_0 ++ dktX7_kindOf_1
theorem dksX7_kindOf_0 : cX7_kindOf.data.toList.drop 0 = dktX7_kindOf_0 := by decide +kernel
theorem dksX7_kindOf_1 : cX7_kindOf.data.toList.drop 22 = dktX7_kindOf_1 := dk_seg dksX7_kindOf_0 22 rfl rfl
theorem dksX7_kindOf_2 : cX7_kindOf.data.toList.drop 46 = dktX7_kindOf_2 := dk_seg dksX7_kindOf_1 24 rfl rfl
theorem dksX7_kindOf_3 : cX7_kindOf.data.toList.drop 69 = dktX7_kindOf_3 := dk_seg dksX7_kindOf_2 23 rfl rfl
theorem dX7_kindOf_0 : decode cX7_kindOf 0 = .ok (.aload_n 0, 1) := dk_42 (dk_at dksX7_kindOf_0 0 rfl rfl)
theorem dX7_kindOf_1 : decode cX7_kindOf 1 = .ok (.iload_n 1, 1) := dk_27 (dk_at dksX7_kindOf_0 1 rfl rfl)
theorem dX7_kindOf_2 : decode cX7_kindOf 2 = .ok (.iload_n 2, 1) := dk_28 (dk_at dksX7_kindOf_0 2 rfl rfl)
theorem dX7_kindOf_3 : decode cX7_kindOf 3 = .ok (.invokevirtual 207, 3) := dk_182 0 207 (dk_at dksX7_kindOf_0 3 rfl rfl)
theorem dX7_kindOf_6 : decode cX7_kindOf 6 = .ok (.istore_n 3, 1) := dk_62 (dk_at dksX7_kindOf_0 6 rfl rfl)
theorem dX7_kindOf_7 : decode cX7_kindOf 7 = .ok (.iload_n 3, 1) := dk_29 (dk_at dksX7_kindOf_0 7 rfl rfl)
theorem dX7_kindOf_8 : decode cX7_kindOf 8 = .ok (.iconst (-1), 1) := dk_2 (dk_at dksX7_kindOf_0 8 rfl rfl)
theorem dX7_kindOf_9 : decode cX7_kindOf 9 = .ok (.if_icmp .eq 23, 3) := dk_159 0 23 (dk_at dksX7_kindOf_0 9 rfl rfl)
theorem dX7_kindOf_12 : decode cX7_kindOf 12 = .ok (.iload_n 1, 1) := dk_27 (dk_at dksX7_kindOf_0 12 rfl rfl)
theorem dX7_kindOf_13 : decode cX7_kindOf 13 = .ok (.ifCond .ge 12, 3) := dk_156 0 12 (dk_at dksX7_kindOf_0 13 rfl rfl)
theorem dX7_kindOf_16 : decode cX7_kindOf 16 = .ok (.aload_n 0, 1) := dk_42 (dk_at dksX7_kindOf_0 16 rfl rfl)
theorem dX7_kindOf_17 : decode cX7_kindOf 17 = .ok (.getfield 72, 3) := dk_180 0 72 (dk_at dksX7_kindOf_0 17 rfl rfl)
theorem dX7_kindOf_20 : decode cX7_kindOf 20 = .ok (.iload_n 3, 1) := dk_29 (dk_at dksX7_kindOf_0 20 rfl rfl)
theorem dX7_kindOf_21 : decode cX7_kindOf 21 = .ok (.iaload, 1) := dk_46 (dk_at dksX7_kindOf_0 21 rfl rfl)
theorem dX7_kindOf_22 : decode cX7_kindOf 22 = .ok (.goto 9, 3) := dk_167 0 9 (dk_at dksX7_kindOf_1 0 rfl rfl)
theorem dX7_kindOf_25 : decode cX7_kindOf 25 = .ok (.aload_n 0, 1) := dk_42 (dk_at dksX7_kindOf_1 3 rfl rfl)
theorem dX7_kindOf_26 : decode cX7_kindOf 26 = .ok (.getfield 16, 3) := dk_180 0 16 (dk_at dksX7_kindOf_1 4 rfl rfl)
theorem dX7_kindOf_29 : decode cX7_kindOf 29 = .ok (.iload_n 3, 1) := dk_29 (dk_at dksX7_kindOf_1 7 rfl rfl)
theorem dX7_kindOf_30 : decode cX7_kindOf 30 = .ok (.iaload, 1) := dk_46 (dk_at dksX7_kindOf_1 8 rfl rfl)
theorem dX7_kindOf_31 : decode cX7_kindOf 31 = .ok (.ireturn, 1) := dk_172 (dk_at dksX7_kindOf_1 9 rfl rfl)
theorem dX7_kindOf_32 : decode cX7_kindOf 32 = .ok (.iconst 0, 1) := dk_3 (dk_at dksX7_kindOf_1 10 rfl rfl)
theorem dX7_kindOf_33 : decode cX7_kindOf 33 = .ok (.istore 4, 2) := dk_54 4 (dk_at dksX7_kindOf_1 11 rfl rfl)
theorem dX7_kindOf_35 : decode cX7_kindOf 35 = .ok (.aload_n 0, 1) := dk_42 (dk_at dksX7_kindOf_1 13 rfl rfl)
theorem dX7_kindOf_36 : decode cX7_kindOf 36 = .ok (.iload_n 1, 1) := dk_27 (dk_at dksX7_kindOf_1 14 rfl rfl)
theorem dX7_kindOf_37 : decode cX7_kindOf 37 = .ok (.invokevirtual 196, 3) := dk_182 0 196 (dk_at dksX7_kindOf_1 15 rfl rfl)
theorem dX7_kindOf_40 : decode cX7_kindOf 40 = .ok (.istore 5, 2) := dk_54 5 (dk_at dksX7_kindOf_1 18 rfl rfl)
theorem dX7_kindOf_42 : decode cX7_kindOf 42 = .ok (.iload 5, 2) := dk_21 5 (dk_at dksX7_kindOf_1 20 rfl rfl)
theorem dX7_kindOf_44 : decode cX7_kindOf 44 = .ok (.aload_n 0, 1) := dk_42 (dk_at dksX7_kindOf_1 22 rfl rfl)
theorem dX7_kindOf_45 : decode cX7_kindOf 45 = .ok (.iload_n 1, 1) := dk_27 (dk_at dksX7_kindOf_1 23 rfl rfl)
theorem dX7_kindOf_46 : decode cX7_kindOf 46 = .ok (.invokevirtual 196, 3) := dk_182 0 196 (dk_at dksX7_kindOf_2 0 rfl rfl)
theorem dX7_kindOf_49 : decode cX7_kindOf 49 = .ok (.aload_n 0, 1) := dk_42 (dk_at dksX7_kindOf_2 3 rfl rfl)
theorem dX7_kindOf_50 : decode cX7_kindOf 50 = .ok (.iload_n 1, 1) := dk_27 (dk_at dksX7_kindOf_2 4 rfl rfl)
theorem dX7_kindOf_51 : decode cX7_kindOf 51 = .ok (.invokevirtual 200, 3) := dk_182 0 200 (dk_at dksX7_kindOf_2 5 rfl rfl)
theorem dX7_kindOf_54 : decode cX7_kindOf 54 = .ok (.iadd, 1) := dk_96 (dk_at dksX7_kindOf_2 8 rfl rfl)
theorem dX7_kindOf_55 : decode cX7_kindOf 55 = .ok (.if_icmp .ge 31, 3) := dk_162 0 31 (dk_at dksX7_kindOf_2 9 rfl rfl)
theorem dX7_kindOf_58 : decode cX7_kindOf 58 = .ok (.aload_n 0, 1) := dk_42 (dk_at dksX7_kindOf_2 12 rfl rfl)
theorem dX7_kindOf_59 : decode cX7_kindOf 59 = .ok (.iload_n 1, 1) := dk_27 (dk_at dksX7_kindOf_2 13 rfl rfl)
theorem dX7_kindOf_60 : decode cX7_kindOf 60 = .ok (.iload 5, 2) := dk_21 5 (dk_at dksX7_kindOf_2 14 rfl rfl)
theorem dX7_kindOf_62 : decode cX7_kindOf 62 = .ok (.invokevirtual 203, 3) := dk_182 0 203 (dk_at dksX7_kindOf_2 16 rfl rfl)
theorem dX7_kindOf_65 : decode cX7_kindOf 65 = .ok (.iload_n 2, 1) := dk_28 (dk_at dksX7_kindOf_2 19 rfl rfl)
theorem dX7_kindOf_66 : decode cX7_kindOf 66 = .ok (.invokestatic 210, 3) := dk_184 0 210 (dk_at dksX7_kindOf_2 20 rfl rfl)
theorem dX7_kindOf_69 : decode cX7_kindOf 69 = .ok (.ifCond .eq 7, 3) := dk_153 0 7 (dk_at dksX7_kindOf_3 0 rfl rfl)
theorem dX7_kindOf_72 : decode cX7_kindOf 72 = .ok (.iconst 2, 1) := dk_5 (dk_at dksX7_kindOf_3 3 rfl rfl)
theorem dX7_kindOf_73 : decode cX7_kindOf 73 = .ok (.goto 5, 3) := dk_167 0 5 (dk_at dksX7_kindOf_3 4 rfl rfl)
theorem dX7_kindOf_76 : decode cX7_kindOf 76 = .ok (.iload 4, 2) := dk_21 4 (dk_at dksX7_kindOf_3 7 rfl rfl)
theorem dX7_kindOf_78 : decode cX7_kindOf 78 = .ok (.istore 4, 2) := dk_54 4 (dk_at dksX7_kindOf_3 9 rfl rfl)
theorem dX7_kindOf_80 : decode cX7_kindOf 80 = .ok (.iinc 5 1, 3) := dk_132 5 1 (dk_at dksX7_kindOf_3 11 rfl rfl)
theorem dX7_kindOf_83 : decode cX7_kindOf 83 = .ok (.goto (-41), 3) := dk_167 255 215 (dk_at dksX7_kindOf_3 14 rfl rfl)
theorem dX7_kindOf_86 : decode cX7_kindOf 86 = .ok (.iload 4, 2) := dk_21 4 (dk_at dksX7_kindOf_3 17 rfl rfl)
theorem dX7_kindOf_88 : decode cX7_kindOf 88 = .ok (.ireturn, 1) := dk_172 (dk_at dksX7_kindOf_3 19 rfl rfl)
abbrev cX7_isWithin : ByteArray := prog_17_method_6_code
def yX7_isWithin : MethodName := ⟨RX7, "isWithin", "(II)Z"⟩
def dkwX7_isWithin_1 : List UInt8 := [16, 99, 164, 0, 7, 4, 167, 0, 4, 3, 172]
abbrev dktX7_isWithin_1 : List UInt8 := dkwX7_isWithin_1 ++ []
def dkwX7_isWithin_0 : List UInt8 := [26, 16, 10, 108, 27, 160, 0, 9, 26, 16, 9, 163, 0, 17, 26, 16, 100, 108, 27, 160, 0, 13, 26]
abbrev dktX7_isWithin_0 : List UInt8 := dkwX7_isWithin_0 ++ dktX7_isWithin_1
theorem dksX7_isWithin_0 : cX7_isWithin.data.toList.drop 0 = dktX7_isWithin_0 := by decide +kernel
theorem dksX7_isWithin_1 : cX7_isWithin.data.toList.drop 23 = dktX7_isWithin_1 := dk_seg dksX7_isWithin_0 23 rfl rfl
theorem dX7_isWithin_0 : decode cX7_isWithin 0 = .ok (.iload_n 0, 1) := dk_26 (dk_at dksX7_isWithin_0 0 rfl rfl)
theorem dX7_isWithin_1 : decode cX7_isWithin 1 = .ok (.bipush 10, 2) := dk_16 10 (dk_at dksX7_isWithin_0 1 rfl rfl)
theorem dX7_isWithin_3 : decode cX7_isWithin 3 = .ok (.idiv, 1) := dk_108 (dk_at dksX7_isWithin_0 3 rfl rfl)
theorem dX7_isWithin_4 : decode cX7_isWithin 4 = .ok (.iload_n 1, 1) := dk_27 (dk_at dksX7_isWithin_0 4 rfl rfl)
theorem dX7_isWithin_5 : decode cX7_isWithin 5 = .ok (.if_icmp .ne 9, 3) := dk_160 0 9 (dk_at dksX7_isWithin_0 5 rfl rfl)
theorem dX7_isWithin_8 : decode cX7_isWithin 8 = .ok (.iload_n 0, 1) := dk_26 (dk_at dksX7_isWithin_0 8 rfl rfl)
theorem dX7_isWithin_9 : decode cX7_isWithin 9 = .ok (.bipush 9, 2) := dk_16 9 (dk_at dksX7_isWithin_0 9 rfl rfl)
theorem dX7_isWithin_11 : decode cX7_isWithin 11 = .ok (.if_icmp .gt 17, 3) := dk_163 0 17 (dk_at dksX7_isWithin_0 11 rfl rfl)
theorem dX7_isWithin_14 : decode cX7_isWithin 14 = .ok (.iload_n 0, 1) := dk_26 (dk_at dksX7_isWithin_0 14 rfl rfl)
theorem dX7_isWithin_15 : decode cX7_isWithin 15 = .ok (.bipush 100, 2) := dk_16 100 (dk_at dksX7_isWithin_0 15 rfl rfl)
theorem dX7_isWithin_17 : decode cX7_isWithin 17 = .ok (.idiv, 1) := dk_108 (dk_at dksX7_isWithin_0 17 rfl rfl)
theorem dX7_isWithin_18 : decode cX7_isWithin 18 = .ok (.iload_n 1, 1) := dk_27 (dk_at dksX7_isWithin_0 18 rfl rfl)
theorem dX7_isWithin_19 : decode cX7_isWithin 19 = .ok (.if_icmp .ne 13, 3) := dk_160 0 13 (dk_at dksX7_isWithin_0 19 rfl rfl)
theorem dX7_isWithin_22 : decode cX7_isWithin 22 = .ok (.iload_n 0, 1) := dk_26 (dk_at dksX7_isWithin_0 22 rfl rfl)
theorem dX7_isWithin_23 : decode cX7_isWithin 23 = .ok (.bipush 99, 2) := dk_16 99 (dk_at dksX7_isWithin_1 0 rfl rfl)
theorem dX7_isWithin_25 : decode cX7_isWithin 25 = .ok (.if_icmp .le 7, 3) := dk_164 0 7 (dk_at dksX7_isWithin_1 2 rfl rfl)
theorem dX7_isWithin_28 : decode cX7_isWithin 28 = .ok (.iconst 1, 1) := dk_4 (dk_at dksX7_isWithin_1 5 rfl rfl)
theorem dX7_isWithin_29 : decode cX7_isWithin 29 = .ok (.goto 4, 3) := dk_167 0 4 (dk_at dksX7_isWithin_1 6 rfl rfl)
theorem dX7_isWithin_32 : decode cX7_isWithin 32 = .ok (.iconst 0, 1) := dk_3 (dk_at dksX7_isWithin_1 9 rfl rfl)
theorem dX7_isWithin_33 : decode cX7_isWithin 33 = .ok (.ireturn, 1) := dk_172 (dk_at dksX7_isWithin_1 10 rfl rfl)
abbrev cX7_showsByAll : ByteArray := prog_17_method_24_code
def yX7_showsByAll : MethodName := ⟨RX7, "showsByAll", "(II)I"⟩
def dkwX7_showsByAll_0 : List UInt8 := [42, 27, 28, 182, 1, 6, 172]
abbrev dktX7_showsByAll_0 : List UInt8 := dkwX7_showsByAll_0 ++ []
theorem dksX7_showsByAll_0 : cX7_showsByAll.data.toList.drop 0 = dktX7_showsByAll_0 := by decide +kernel
theorem dX7_showsByAll_0 : decode cX7_showsByAll 0 = .ok (.aload_n 0, 1) := dk_42 (dk_at dksX7_showsByAll_0 0 rfl rfl)
theorem dX7_showsByAll_1 : decode cX7_showsByAll 1 = .ok (.iload_n 1, 1) := dk_27 (dk_at dksX7_showsByAll_0 1 rfl rfl)
theorem dX7_showsByAll_2 : decode cX7_showsByAll 2 = .ok (.iload_n 2, 1) := dk_28 (dk_at dksX7_showsByAll_0 2 rfl rfl)
theorem dX7_showsByAll_3 : decode cX7_showsByAll 3 = .ok (.invokevirtual 262, 3) := dk_182 1 6 (dk_at dksX7_showsByAll_0 3 rfl rfl)
theorem dX7_showsByAll_6 : decode cX7_showsByAll 6 = .ok (.ireturn, 1) := dk_172 (dk_at dksX7_showsByAll_0 6 rfl rfl)
abbrev cX7_start : ByteArray := prog_17_method_31_code
def yX7_start : MethodName := ⟨RX7, "start", "(II)I"⟩
def dkwX7_start_2 : List UInt8 := [158, 0, 7, 3, 167, 0, 10, 42, 27, 28, 2, 182, 1, 21, 172]
abbrev dktX7_start_2 : List UInt8 := dkwX7_start_2 ++ []
def dkwX7_start_1 : List UInt8 := [167, 0, 16, 42, 27, 182, 1, 18, 154, 0, 7, 6, 167, 0, 4, 3, 181, 0, 189, 42, 180, 0, 189]
abbrev dktX7_start_1 : List UInt8 := dkwX7_start_1 ++ dktX7_start_2
def dkwX7_start_0 : List UInt8 := [42, 42, 27, 182, 0, 250, 154, 0, 7, 4, 167, 0, 30, 28, 3, 16, 9, 184, 0, 192, 154, 0, 7, 5]
abbrev dktX7_start_0 : List UInt8 := dkwX7_start_0 ++ dktX7_start_1
theorem dksX7_start_0 : cX7_start.data.toList.drop 0 = dktX7_start_0 := by decide +kernel
theorem dksX7_start_1 : cX7_start.data.toList.drop 24 = dktX7_start_1 := dk_seg dksX7_start_0 24 rfl rfl
theorem dksX7_start_2 : cX7_start.data.toList.drop 47 = dktX7_start_2 := dk_seg dksX7_start_1 23 rfl rfl
theorem dX7_start_0 : decode cX7_start 0 = .ok (.aload_n 0, 1) := dk_42 (dk_at dksX7_start_0 0 rfl rfl)
theorem dX7_start_1 : decode cX7_start 1 = .ok (.aload_n 0, 1) := dk_42 (dk_at dksX7_start_0 1 rfl rfl)
theorem dX7_start_2 : decode cX7_start 2 = .ok (.iload_n 1, 1) := dk_27 (dk_at dksX7_start_0 2 rfl rfl)
theorem dX7_start_3 : decode cX7_start 3 = .ok (.invokevirtual 250, 3) := dk_182 0 250 (dk_at dksX7_start_0 3 rfl rfl)
theorem dX7_start_6 : decode cX7_start 6 = .ok (.ifCond .ne 7, 3) := dk_154 0 7 (dk_at dksX7_start_0 6 rfl rfl)
theorem dX7_start_9 : decode cX7_start 9 = .ok (.iconst 1, 1) := dk_4 (dk_at dksX7_start_0 9 rfl rfl)
theorem dX7_start_10 : decode cX7_start 10 = .ok (.goto 30, 3) := dk_167 0 30 (dk_at dksX7_start_0 10 rfl rfl)
theorem dX7_start_13 : decode cX7_start 13 = .ok (.iload_n 2, 1) := dk_28 (dk_at dksX7_start_0 13 rfl rfl)
theorem dX7_start_14 : decode cX7_start 14 = .ok (.iconst 0, 1) := dk_3 (dk_at dksX7_start_0 14 rfl rfl)
theorem dX7_start_15 : decode cX7_start 15 = .ok (.bipush 9, 2) := dk_16 9 (dk_at dksX7_start_0 15 rfl rfl)
theorem dX7_start_17 : decode cX7_start 17 = .ok (.invokestatic 192, 3) := dk_184 0 192 (dk_at dksX7_start_0 17 rfl rfl)
theorem dX7_start_20 : decode cX7_start 20 = .ok (.ifCond .ne 7, 3) := dk_154 0 7 (dk_at dksX7_start_0 20 rfl rfl)
theorem dX7_start_23 : decode cX7_start 23 = .ok (.iconst 2, 1) := dk_5 (dk_at dksX7_start_0 23 rfl rfl)
theorem dX7_start_24 : decode cX7_start 24 = .ok (.goto 16, 3) := dk_167 0 16 (dk_at dksX7_start_1 0 rfl rfl)
theorem dX7_start_27 : decode cX7_start 27 = .ok (.aload_n 0, 1) := dk_42 (dk_at dksX7_start_1 3 rfl rfl)
theorem dX7_start_28 : decode cX7_start 28 = .ok (.iload_n 1, 1) := dk_27 (dk_at dksX7_start_1 4 rfl rfl)
theorem dX7_start_29 : decode cX7_start 29 = .ok (.invokevirtual 274, 3) := dk_182 1 18 (dk_at dksX7_start_1 5 rfl rfl)
theorem dX7_start_32 : decode cX7_start 32 = .ok (.ifCond .ne 7, 3) := dk_154 0 7 (dk_at dksX7_start_1 8 rfl rfl)
theorem dX7_start_35 : decode cX7_start 35 = .ok (.iconst 3, 1) := dk_6 (dk_at dksX7_start_1 11 rfl rfl)
theorem dX7_start_36 : decode cX7_start 36 = .ok (.goto 4, 3) := dk_167 0 4 (dk_at dksX7_start_1 12 rfl rfl)
theorem dX7_start_39 : decode cX7_start 39 = .ok (.iconst 0, 1) := dk_3 (dk_at dksX7_start_1 15 rfl rfl)
theorem dX7_start_40 : decode cX7_start 40 = .ok (.putfield 189, 3) := dk_181 0 189 (dk_at dksX7_start_1 16 rfl rfl)
theorem dX7_start_43 : decode cX7_start 43 = .ok (.aload_n 0, 1) := dk_42 (dk_at dksX7_start_1 19 rfl rfl)
theorem dX7_start_44 : decode cX7_start 44 = .ok (.getfield 189, 3) := dk_180 0 189 (dk_at dksX7_start_1 20 rfl rfl)
theorem dX7_start_47 : decode cX7_start 47 = .ok (.ifCond .le 7, 3) := dk_158 0 7 (dk_at dksX7_start_2 0 rfl rfl)
theorem dX7_start_50 : decode cX7_start 50 = .ok (.iconst 0, 1) := dk_3 (dk_at dksX7_start_2 3 rfl rfl)
theorem dX7_start_51 : decode cX7_start 51 = .ok (.goto 10, 3) := dk_167 0 10 (dk_at dksX7_start_2 4 rfl rfl)
theorem dX7_start_54 : decode cX7_start 54 = .ok (.aload_n 0, 1) := dk_42 (dk_at dksX7_start_2 7 rfl rfl)
theorem dX7_start_55 : decode cX7_start 55 = .ok (.iload_n 1, 1) := dk_27 (dk_at dksX7_start_2 8 rfl rfl)
theorem dX7_start_56 : decode cX7_start 56 = .ok (.iload_n 2, 1) := dk_28 (dk_at dksX7_start_2 9 rfl rfl)
theorem dX7_start_57 : decode cX7_start 57 = .ok (.iconst (-1), 1) := dk_2 (dk_at dksX7_start_2 10 rfl rfl)
theorem dX7_start_58 : decode cX7_start 58 = .ok (.invokevirtual 277, 3) := dk_182 1 21 (dk_at dksX7_start_2 11 rfl rfl)
theorem dX7_start_61 : decode cX7_start 61 = .ok (.ireturn, 1) := dk_172 (dk_at dksX7_start_2 14 rfl rfl)
abbrev cX7_canStart : ByteArray := prog_17_method_28_code
def yX7_canStart : MethodName := ⟨RX7, "canStart", "(I)Z"⟩
def dkwX7_canStart_1 : List UInt8 := [4, 167, 0, 4, 3, 172]
abbrev dktX7_canStart_1 : List UInt8 := dkwX7_canStart_1 ++ []
def dkwX7_canStart_0 : List UInt8 := [42, 182, 1, 9, 16, 8, 162, 0, 22, 42, 27, 182, 1, 12, 42, 180, 0, 241, 2, 130, 126, 154, 0, 7]
abbrev dktX7_canStart_0 : List UInt8 := dkwX7_canStart_0 ++ dktX7_canStart_1
theorem dksX7_canStart_0 : cX7_canStart.data.toList.drop 0 = dktX7_canStart_0 := by decide +kernel
theorem dksX7_canStart_1 : cX7_canStart.data.toList.drop 24 = dktX7_canStart_1 := dk_seg dksX7_canStart_0 24 rfl rfl
theorem dX7_canStart_0 : decode cX7_canStart 0 = .ok (.aload_n 0, 1) := dk_42 (dk_at dksX7_canStart_0 0 rfl rfl)
theorem dX7_canStart_1 : decode cX7_canStart 1 = .ok (.invokevirtual 265, 3) := dk_182 1 9 (dk_at dksX7_canStart_0 1 rfl rfl)
theorem dX7_canStart_4 : decode cX7_canStart 4 = .ok (.bipush 8, 2) := dk_16 8 (dk_at dksX7_canStart_0 4 rfl rfl)
theorem dX7_canStart_6 : decode cX7_canStart 6 = .ok (.if_icmp .ge 22, 3) := dk_162 0 22 (dk_at dksX7_canStart_0 6 rfl rfl)
theorem dX7_canStart_9 : decode cX7_canStart 9 = .ok (.aload_n 0, 1) := dk_42 (dk_at dksX7_canStart_0 9 rfl rfl)
theorem dX7_canStart_10 : decode cX7_canStart 10 = .ok (.iload_n 1, 1) := dk_27 (dk_at dksX7_canStart_0 10 rfl rfl)
theorem dX7_canStart_11 : decode cX7_canStart 11 = .ok (.invokevirtual 268, 3) := dk_182 1 12 (dk_at dksX7_canStart_0 11 rfl rfl)
theorem dX7_canStart_14 : decode cX7_canStart 14 = .ok (.aload_n 0, 1) := dk_42 (dk_at dksX7_canStart_0 14 rfl rfl)
theorem dX7_canStart_15 : decode cX7_canStart 15 = .ok (.getfield 241, 3) := dk_180 0 241 (dk_at dksX7_canStart_0 15 rfl rfl)
theorem dX7_canStart_18 : decode cX7_canStart 18 = .ok (.iconst (-1), 1) := dk_2 (dk_at dksX7_canStart_0 18 rfl rfl)
theorem dX7_canStart_19 : decode cX7_canStart 19 = .ok (.ixor, 1) := dk_130 (dk_at dksX7_canStart_0 19 rfl rfl)
theorem dX7_canStart_20 : decode cX7_canStart 20 = .ok (.iand, 1) := dk_126 (dk_at dksX7_canStart_0 20 rfl rfl)
theorem dX7_canStart_21 : decode cX7_canStart 21 = .ok (.ifCond .ne 7, 3) := dk_154 0 7 (dk_at dksX7_canStart_0 21 rfl rfl)
theorem dX7_canStart_24 : decode cX7_canStart 24 = .ok (.iconst 1, 1) := dk_4 (dk_at dksX7_canStart_1 0 rfl rfl)
theorem dX7_canStart_25 : decode cX7_canStart 25 = .ok (.goto 4, 3) := dk_167 0 4 (dk_at dksX7_canStart_1 1 rfl rfl)
theorem dX7_canStart_28 : decode cX7_canStart 28 = .ok (.iconst 0, 1) := dk_3 (dk_at dksX7_canStart_1 4 rfl rfl)
theorem dX7_canStart_29 : decode cX7_canStart 29 = .ok (.ireturn, 1) := dk_172 (dk_at dksX7_canStart_1 5 rfl rfl)
abbrev cX7_here : ByteArray := prog_17_method_26_code
def yX7_here : MethodName := ⟨RX7, "here", "()I"⟩
def dkwX7_here_1 : List UInt8 := [167, 0, 4, 3, 96, 60, 132, 2, 1, 167, 255, 229, 27, 172]
abbrev dktX7_here_1 : List UInt8 := dkwX7_here_1 ++ []
def dkwX7_here_0 : List UInt8 := [3, 60, 3, 61, 28, 16, 8, 162, 0, 27, 27, 42, 180, 0, 50, 28, 46, 2, 159, 0, 7, 4]
abbrev dktX7_here_0 : List UInt8 := dkwX7_here_0 ++ dktX7_here_1
theorem dksX7_here_0 : cX7_here.data.toList.drop 0 = dktX7_here_0 := by decide +kernel
theorem dksX7_here_1 : cX7_here.data.toList.drop 22 = dktX7_here_1 := dk_seg dksX7_here_0 22 rfl rfl
theorem dX7_here_0 : decode cX7_here 0 = .ok (.iconst 0, 1) := dk_3 (dk_at dksX7_here_0 0 rfl rfl)
theorem dX7_here_1 : decode cX7_here 1 = .ok (.istore_n 1, 1) := dk_60 (dk_at dksX7_here_0 1 rfl rfl)
theorem dX7_here_2 : decode cX7_here 2 = .ok (.iconst 0, 1) := dk_3 (dk_at dksX7_here_0 2 rfl rfl)
theorem dX7_here_3 : decode cX7_here 3 = .ok (.istore_n 2, 1) := dk_61 (dk_at dksX7_here_0 3 rfl rfl)
theorem dX7_here_4 : decode cX7_here 4 = .ok (.iload_n 2, 1) := dk_28 (dk_at dksX7_here_0 4 rfl rfl)
theorem dX7_here_5 : decode cX7_here 5 = .ok (.bipush 8, 2) := dk_16 8 (dk_at dksX7_here_0 5 rfl rfl)
theorem dX7_here_7 : decode cX7_here 7 = .ok (.if_icmp .ge 27, 3) := dk_162 0 27 (dk_at dksX7_here_0 7 rfl rfl)
theorem dX7_here_10 : decode cX7_here 10 = .ok (.iload_n 1, 1) := dk_27 (dk_at dksX7_here_0 10 rfl rfl)
theorem dX7_here_11 : decode cX7_here 11 = .ok (.aload_n 0, 1) := dk_42 (dk_at dksX7_here_0 11 rfl rfl)
theorem dX7_here_12 : decode cX7_here 12 = .ok (.getfield 50, 3) := dk_180 0 50 (dk_at dksX7_here_0 12 rfl rfl)
theorem dX7_here_15 : decode cX7_here 15 = .ok (.iload_n 2, 1) := dk_28 (dk_at dksX7_here_0 15 rfl rfl)
theorem dX7_here_16 : decode cX7_here 16 = .ok (.iaload, 1) := dk_46 (dk_at dksX7_here_0 16 rfl rfl)
theorem dX7_here_17 : decode cX7_here 17 = .ok (.iconst (-1), 1) := dk_2 (dk_at dksX7_here_0 17 rfl rfl)
theorem dX7_here_18 : decode cX7_here 18 = .ok (.if_icmp .eq 7, 3) := dk_159 0 7 (dk_at dksX7_here_0 18 rfl rfl)
theorem dX7_here_21 : decode cX7_here 21 = .ok (.iconst 1, 1) := dk_4 (dk_at dksX7_here_0 21 rfl rfl)
theorem dX7_here_22 : decode cX7_here 22 = .ok (.goto 4, 3) := dk_167 0 4 (dk_at dksX7_here_1 0 rfl rfl)
theorem dX7_here_25 : decode cX7_here 25 = .ok (.iconst 0, 1) := dk_3 (dk_at dksX7_here_1 3 rfl rfl)
theorem dX7_here_26 : decode cX7_here 26 = .ok (.iadd, 1) := dk_96 (dk_at dksX7_here_1 4 rfl rfl)
theorem dX7_here_27 : decode cX7_here 27 = .ok (.istore_n 1, 1) := dk_60 (dk_at dksX7_here_1 5 rfl rfl)
theorem dX7_here_28 : decode cX7_here 28 = .ok (.iinc 2 1, 3) := dk_132 2 1 (dk_at dksX7_here_1 6 rfl rfl)
theorem dX7_here_31 : decode cX7_here 31 = .ok (.goto (-27), 3) := dk_167 255 229 (dk_at dksX7_here_1 9 rfl rfl)
theorem dX7_here_34 : decode cX7_here 34 = .ok (.iload_n 1, 1) := dk_27 (dk_at dksX7_here_1 12 rfl rfl)
theorem dX7_here_35 : decode cX7_here 35 = .ok (.ireturn, 1) := dk_172 (dk_at dksX7_here_1 13 rfl rfl)
abbrev cX7_layersOf : ByteArray := prog_17_method_27_code
def yX7_layersOf : MethodName := ⟨RX7, "layersOf", "(I)I"⟩
def dkwX7_layersOf_1 : List UInt8 := [96, 46, 120, 128, 61, 132, 3, 1, 167, 255, 228, 28, 172]
abbrev dktX7_layersOf_1 : List UInt8 := dkwX7_layersOf_1 ++ []
def dkwX7_layersOf_0 : List UInt8 := [3, 61, 3, 62, 29, 42, 180, 0, 44, 27, 46, 162, 0, 24, 28, 4, 42, 180, 0, 47, 8, 27, 104, 29]
abbrev dktX7_layersOf_0 : List UInt8 := dkwX7_layersOf_0 ++ dktX7_layersOf_1
theorem dksX7_layersOf_0 : cX7_layersOf.data.toList.drop 0 = dktX7_layersOf_0 := by decide +kernel
theorem dksX7_layersOf_1 : cX7_layersOf.data.toList.drop 24 = dktX7_layersOf_1 := dk_seg dksX7_layersOf_0 24 rfl rfl
theorem dX7_layersOf_0 : decode cX7_layersOf 0 = .ok (.iconst 0, 1) := dk_3 (dk_at dksX7_layersOf_0 0 rfl rfl)
theorem dX7_layersOf_1 : decode cX7_layersOf 1 = .ok (.istore_n 2, 1) := dk_61 (dk_at dksX7_layersOf_0 1 rfl rfl)
theorem dX7_layersOf_2 : decode cX7_layersOf 2 = .ok (.iconst 0, 1) := dk_3 (dk_at dksX7_layersOf_0 2 rfl rfl)
theorem dX7_layersOf_3 : decode cX7_layersOf 3 = .ok (.istore_n 3, 1) := dk_62 (dk_at dksX7_layersOf_0 3 rfl rfl)
theorem dX7_layersOf_4 : decode cX7_layersOf 4 = .ok (.iload_n 3, 1) := dk_29 (dk_at dksX7_layersOf_0 4 rfl rfl)
theorem dX7_layersOf_5 : decode cX7_layersOf 5 = .ok (.aload_n 0, 1) := dk_42 (dk_at dksX7_layersOf_0 5 rfl rfl)
theorem dX7_layersOf_6 : decode cX7_layersOf 6 = .ok (.getfield 44, 3) := dk_180 0 44 (dk_at dksX7_layersOf_0 6 rfl rfl)
theorem dX7_layersOf_9 : decode cX7_layersOf 9 = .ok (.iload_n 1, 1) := dk_27 (dk_at dksX7_layersOf_0 9 rfl rfl)
theorem dX7_layersOf_10 : decode cX7_layersOf 10 = .ok (.iaload, 1) := dk_46 (dk_at dksX7_layersOf_0 10 rfl rfl)
theorem dX7_layersOf_11 : decode cX7_layersOf 11 = .ok (.if_icmp .ge 24, 3) := dk_162 0 24 (dk_at dksX7_layersOf_0 11 rfl rfl)
theorem dX7_layersOf_14 : decode cX7_layersOf 14 = .ok (.iload_n 2, 1) := dk_28 (dk_at dksX7_layersOf_0 14 rfl rfl)
theorem dX7_layersOf_15 : decode cX7_layersOf 15 = .ok (.iconst 1, 1) := dk_4 (dk_at dksX7_layersOf_0 15 rfl rfl)
theorem dX7_layersOf_16 : decode cX7_layersOf 16 = .ok (.aload_n 0, 1) := dk_42 (dk_at dksX7_layersOf_0 16 rfl rfl)
theorem dX7_layersOf_17 : decode cX7_layersOf 17 = .ok (.getfield 47, 3) := dk_180 0 47 (dk_at dksX7_layersOf_0 17 rfl rfl)
theorem dX7_layersOf_20 : decode cX7_layersOf 20 = .ok (.iconst 5, 1) := dk_8 (dk_at dksX7_layersOf_0 20 rfl rfl)
theorem dX7_layersOf_21 : decode cX7_layersOf 21 = .ok (.iload_n 1, 1) := dk_27 (dk_at dksX7_layersOf_0 21 rfl rfl)
theorem dX7_layersOf_22 : decode cX7_layersOf 22 = .ok (.imul, 1) := dk_104 (dk_at dksX7_layersOf_0 22 rfl rfl)
theorem dX7_layersOf_23 : decode cX7_layersOf 23 = .ok (.iload_n 3, 1) := dk_29 (dk_at dksX7_layersOf_0 23 rfl rfl)
theorem dX7_layersOf_24 : decode cX7_layersOf 24 = .ok (.iadd, 1) := dk_96 (dk_at dksX7_layersOf_1 0 rfl rfl)
theorem dX7_layersOf_25 : decode cX7_layersOf 25 = .ok (.iaload, 1) := dk_46 (dk_at dksX7_layersOf_1 1 rfl rfl)
theorem dX7_layersOf_26 : decode cX7_layersOf 26 = .ok (.ishl, 1) := dk_120 (dk_at dksX7_layersOf_1 2 rfl rfl)
theorem dX7_layersOf_27 : decode cX7_layersOf 27 = .ok (.ior, 1) := dk_128 (dk_at dksX7_layersOf_1 3 rfl rfl)
theorem dX7_layersOf_28 : decode cX7_layersOf 28 = .ok (.istore_n 2, 1) := dk_61 (dk_at dksX7_layersOf_1 4 rfl rfl)
theorem dX7_layersOf_29 : decode cX7_layersOf 29 = .ok (.iinc 3 1, 3) := dk_132 3 1 (dk_at dksX7_layersOf_1 5 rfl rfl)
theorem dX7_layersOf_32 : decode cX7_layersOf 32 = .ok (.goto (-28), 3) := dk_167 255 228 (dk_at dksX7_layersOf_1 8 rfl rfl)
theorem dX7_layersOf_35 : decode cX7_layersOf 35 = .ok (.iload_n 2, 1) := dk_28 (dk_at dksX7_layersOf_1 11 rfl rfl)
theorem dX7_layersOf_36 : decode cX7_layersOf 36 = .ok (.ireturn, 1) := dk_172 (dk_at dksX7_layersOf_1 12 rfl rfl)
abbrev cX7_starts : ByteArray := prog_17_method_29_code
def yX7_starts : MethodName := ⟨RX7, "starts", "(III)I"⟩
def dkwX7_starts_6 : List UInt8 := [96, 181, 1, 15, 42, 180, 1, 15, 4, 100, 172]
abbrev dktX7_starts_6 : List UInt8 := dkwX7_starts_6 ++ []
def dkwX7_starts_5 : List UInt8 := [180, 0, 102, 6, 21, 4, 104, 21, 5, 96, 3, 79, 132, 5, 1, 167, 255, 234, 42, 89, 180, 1, 15, 4]
abbrev dktX7_starts_5 : List UInt8 := dkwX7_starts_5 ++ dktX7_starts_6
def dkwX7_starts_4 : List UInt8 := [21, 4, 104, 21, 5, 96, 2, 79, 132, 5, 1, 167, 255, 232, 3, 54, 5, 21, 5, 6, 162, 0, 22, 42]
abbrev dktX7_starts_4 : List UInt8 := dkwX7_starts_4 ++ dktX7_starts_5
def dkwX7_starts_3 : List UInt8 := [180, 0, 93, 21, 4, 3, 79, 3, 54, 5, 21, 5, 16, 100, 162, 0, 23, 42, 180, 0, 87, 16, 100]
abbrev dktX7_starts_3 : List UInt8 := dkwX7_starts_3 ++ dktX7_starts_4
def dkwX7_starts_2 : List UInt8 := [180, 0, 59, 21, 4, 29, 79, 42, 180, 0, 62, 21, 4, 4, 84, 42, 180, 0, 66, 21, 4, 3, 79, 42]
abbrev dktX7_starts_2 : List UInt8 := dkwX7_starts_2 ++ dktX7_starts_3
def dkwX7_starts_1 : List UInt8 := [21, 4, 42, 180, 1, 15, 79, 42, 180, 0, 53, 21, 4, 27, 79, 42, 180, 0, 56, 21, 4, 28, 79, 42]
abbrev dktX7_starts_1 : List UInt8 := dkwX7_starts_1 ++ dktX7_starts_2
def dkwX7_starts_0 : List UInt8 := [3, 54, 4, 42, 180, 0, 50, 21, 4, 46, 2, 159, 0, 9, 132, 4, 1, 167, 255, 242, 42, 180, 0, 50]
abbrev dktX7_starts_0 : List UInt8 := dkwX7_starts_0 ++ dktX7_starts_1
theorem dksX7_starts_0 : cX7_starts.data.toList.drop 0 = dktX7_starts_0 := by decide +kernel
theorem dksX7_starts_1 : cX7_starts.data.toList.drop 24 = dktX7_starts_1 := dk_seg dksX7_starts_0 24 rfl rfl
theorem dksX7_starts_2 : cX7_starts.data.toList.drop 48 = dktX7_starts_2 := dk_seg dksX7_starts_1 24 rfl rfl
theorem dksX7_starts_3 : cX7_starts.data.toList.drop 72 = dktX7_starts_3 := dk_seg dksX7_starts_2 24 rfl rfl
theorem dksX7_starts_4 : cX7_starts.data.toList.drop 95 = dktX7_starts_4 := dk_seg dksX7_starts_3 23 rfl rfl
theorem dksX7_starts_5 : cX7_starts.data.toList.drop 119 = dktX7_starts_5 := dk_seg dksX7_starts_4 24 rfl rfl
theorem dksX7_starts_6 : cX7_starts.data.toList.drop 143 = dktX7_starts_6 := dk_seg dksX7_starts_5 24 rfl rfl
theorem dX7_starts_0 : decode cX7_starts 0 = .ok (.iconst 0, 1) := dk_3 (dk_at dksX7_starts_0 0 rfl rfl)
theorem dX7_starts_1 : decode cX7_starts 1 = .ok (.istore 4, 2) := dk_54 4 (dk_at dksX7_starts_0 1 rfl rfl)
theorem dX7_starts_3 : decode cX7_starts 3 = .ok (.aload_n 0, 1) := dk_42 (dk_at dksX7_starts_0 3 rfl rfl)
theorem dX7_starts_4 : decode cX7_starts 4 = .ok (.getfield 50, 3) := dk_180 0 50 (dk_at dksX7_starts_0 4 rfl rfl)
theorem dX7_starts_7 : decode cX7_starts 7 = .ok (.iload 4, 2) := dk_21 4 (dk_at dksX7_starts_0 7 rfl rfl)
theorem dX7_starts_9 : decode cX7_starts 9 = .ok (.iaload, 1) := dk_46 (dk_at dksX7_starts_0 9 rfl rfl)
theorem dX7_starts_10 : decode cX7_starts 10 = .ok (.iconst (-1), 1) := dk_2 (dk_at dksX7_starts_0 10 rfl rfl)
theorem dX7_starts_11 : decode cX7_starts 11 = .ok (.if_icmp .eq 9, 3) := dk_159 0 9 (dk_at dksX7_starts_0 11 rfl rfl)
theorem dX7_starts_14 : decode cX7_starts 14 = .ok (.iinc 4 1, 3) := dk_132 4 1 (dk_at dksX7_starts_0 14 rfl rfl)
theorem dX7_starts_17 : decode cX7_starts 17 = .ok (.goto (-14), 3) := dk_167 255 242 (dk_at dksX7_starts_0 17 rfl rfl)
theorem dX7_starts_20 : decode cX7_starts 20 = .ok (.aload_n 0, 1) := dk_42 (dk_at dksX7_starts_0 20 rfl rfl)
theorem dX7_starts_21 : decode cX7_starts 21 = .ok (.getfield 50, 3) := dk_180 0 50 (dk_at dksX7_starts_0 21 rfl rfl)
theorem dX7_starts_24 : decode cX7_starts 24 = .ok (.iload 4, 2) := dk_21 4 (dk_at dksX7_starts_1 0 rfl rfl)
theorem dX7_starts_26 : decode cX7_starts 26 = .ok (.aload_n 0, 1) := dk_42 (dk_at dksX7_starts_1 2 rfl rfl)
theorem dX7_starts_27 : decode cX7_starts 27 = .ok (.getfield 271, 3) := dk_180 1 15 (dk_at dksX7_starts_1 3 rfl rfl)
theorem dX7_starts_30 : decode cX7_starts 30 = .ok (.iastore, 1) := dk_79 (dk_at dksX7_starts_1 6 rfl rfl)
theorem dX7_starts_31 : decode cX7_starts 31 = .ok (.aload_n 0, 1) := dk_42 (dk_at dksX7_starts_1 7 rfl rfl)
theorem dX7_starts_32 : decode cX7_starts 32 = .ok (.getfield 53, 3) := dk_180 0 53 (dk_at dksX7_starts_1 8 rfl rfl)
theorem dX7_starts_35 : decode cX7_starts 35 = .ok (.iload 4, 2) := dk_21 4 (dk_at dksX7_starts_1 11 rfl rfl)
theorem dX7_starts_37 : decode cX7_starts 37 = .ok (.iload_n 1, 1) := dk_27 (dk_at dksX7_starts_1 13 rfl rfl)
theorem dX7_starts_38 : decode cX7_starts 38 = .ok (.iastore, 1) := dk_79 (dk_at dksX7_starts_1 14 rfl rfl)
theorem dX7_starts_39 : decode cX7_starts 39 = .ok (.aload_n 0, 1) := dk_42 (dk_at dksX7_starts_1 15 rfl rfl)
theorem dX7_starts_40 : decode cX7_starts 40 = .ok (.getfield 56, 3) := dk_180 0 56 (dk_at dksX7_starts_1 16 rfl rfl)
theorem dX7_starts_43 : decode cX7_starts 43 = .ok (.iload 4, 2) := dk_21 4 (dk_at dksX7_starts_1 19 rfl rfl)
theorem dX7_starts_45 : decode cX7_starts 45 = .ok (.iload_n 2, 1) := dk_28 (dk_at dksX7_starts_1 21 rfl rfl)
theorem dX7_starts_46 : decode cX7_starts 46 = .ok (.iastore, 1) := dk_79 (dk_at dksX7_starts_1 22 rfl rfl)
theorem dX7_starts_47 : decode cX7_starts 47 = .ok (.aload_n 0, 1) := dk_42 (dk_at dksX7_starts_1 23 rfl rfl)
theorem dX7_starts_48 : decode cX7_starts 48 = .ok (.getfield 59, 3) := dk_180 0 59 (dk_at dksX7_starts_2 0 rfl rfl)
theorem dX7_starts_51 : decode cX7_starts 51 = .ok (.iload 4, 2) := dk_21 4 (dk_at dksX7_starts_2 3 rfl rfl)
theorem dX7_starts_53 : decode cX7_starts 53 = .ok (.iload_n 3, 1) := dk_29 (dk_at dksX7_starts_2 5 rfl rfl)
theorem dX7_starts_54 : decode cX7_starts 54 = .ok (.iastore, 1) := dk_79 (dk_at dksX7_starts_2 6 rfl rfl)
theorem dX7_starts_55 : decode cX7_starts 55 = .ok (.aload_n 0, 1) := dk_42 (dk_at dksX7_starts_2 7 rfl rfl)
theorem dX7_starts_56 : decode cX7_starts 56 = .ok (.getfield 62, 3) := dk_180 0 62 (dk_at dksX7_starts_2 8 rfl rfl)
theorem dX7_starts_59 : decode cX7_starts 59 = .ok (.iload 4, 2) := dk_21 4 (dk_at dksX7_starts_2 11 rfl rfl)
theorem dX7_starts_61 : decode cX7_starts 61 = .ok (.iconst 1, 1) := dk_4 (dk_at dksX7_starts_2 13 rfl rfl)
theorem dX7_starts_62 : decode cX7_starts 62 = .ok (.bastore, 1) := dk_84 (dk_at dksX7_starts_2 14 rfl rfl)
theorem dX7_starts_63 : decode cX7_starts 63 = .ok (.aload_n 0, 1) := dk_42 (dk_at dksX7_starts_2 15 rfl rfl)
theorem dX7_starts_64 : decode cX7_starts 64 = .ok (.getfield 66, 3) := dk_180 0 66 (dk_at dksX7_starts_2 16 rfl rfl)
theorem dX7_starts_67 : decode cX7_starts 67 = .ok (.iload 4, 2) := dk_21 4 (dk_at dksX7_starts_2 19 rfl rfl)
theorem dX7_starts_69 : decode cX7_starts 69 = .ok (.iconst 0, 1) := dk_3 (dk_at dksX7_starts_2 21 rfl rfl)
theorem dX7_starts_70 : decode cX7_starts 70 = .ok (.iastore, 1) := dk_79 (dk_at dksX7_starts_2 22 rfl rfl)
theorem dX7_starts_71 : decode cX7_starts 71 = .ok (.aload_n 0, 1) := dk_42 (dk_at dksX7_starts_2 23 rfl rfl)
theorem dX7_starts_72 : decode cX7_starts 72 = .ok (.getfield 93, 3) := dk_180 0 93 (dk_at dksX7_starts_3 0 rfl rfl)
theorem dX7_starts_75 : decode cX7_starts 75 = .ok (.iload 4, 2) := dk_21 4 (dk_at dksX7_starts_3 3 rfl rfl)
theorem dX7_starts_77 : decode cX7_starts 77 = .ok (.iconst 0, 1) := dk_3 (dk_at dksX7_starts_3 5 rfl rfl)
theorem dX7_starts_78 : decode cX7_starts 78 = .ok (.iastore, 1) := dk_79 (dk_at dksX7_starts_3 6 rfl rfl)
theorem dX7_starts_79 : decode cX7_starts 79 = .ok (.iconst 0, 1) := dk_3 (dk_at dksX7_starts_3 7 rfl rfl)
theorem dX7_starts_80 : decode cX7_starts 80 = .ok (.istore 5, 2) := dk_54 5 (dk_at dksX7_starts_3 8 rfl rfl)
theorem dX7_starts_82 : decode cX7_starts 82 = .ok (.iload 5, 2) := dk_21 5 (dk_at dksX7_starts_3 10 rfl rfl)
theorem dX7_starts_84 : decode cX7_starts 84 = .ok (.bipush 100, 2) := dk_16 100 (dk_at dksX7_starts_3 12 rfl rfl)
theorem dX7_starts_86 : decode cX7_starts 86 = .ok (.if_icmp .ge 23, 3) := dk_162 0 23 (dk_at dksX7_starts_3 14 rfl rfl)
theorem dX7_starts_89 : decode cX7_starts 89 = .ok (.aload_n 0, 1) := dk_42 (dk_at dksX7_starts_3 17 rfl rfl)
theorem dX7_starts_90 : decode cX7_starts 90 = .ok (.getfield 87, 3) := dk_180 0 87 (dk_at dksX7_starts_3 18 rfl rfl)
theorem dX7_starts_93 : decode cX7_starts 93 = .ok (.bipush 100, 2) := dk_16 100 (dk_at dksX7_starts_3 21 rfl rfl)
theorem dX7_starts_95 : decode cX7_starts 95 = .ok (.iload 4, 2) := dk_21 4 (dk_at dksX7_starts_4 0 rfl rfl)
theorem dX7_starts_97 : decode cX7_starts 97 = .ok (.imul, 1) := dk_104 (dk_at dksX7_starts_4 2 rfl rfl)
theorem dX7_starts_98 : decode cX7_starts 98 = .ok (.iload 5, 2) := dk_21 5 (dk_at dksX7_starts_4 3 rfl rfl)
theorem dX7_starts_100 : decode cX7_starts 100 = .ok (.iadd, 1) := dk_96 (dk_at dksX7_starts_4 5 rfl rfl)
theorem dX7_starts_101 : decode cX7_starts 101 = .ok (.iconst (-1), 1) := dk_2 (dk_at dksX7_starts_4 6 rfl rfl)
theorem dX7_starts_102 : decode cX7_starts 102 = .ok (.iastore, 1) := dk_79 (dk_at dksX7_starts_4 7 rfl rfl)
theorem dX7_starts_103 : decode cX7_starts 103 = .ok (.iinc 5 1, 3) := dk_132 5 1 (dk_at dksX7_starts_4 8 rfl rfl)
theorem dX7_starts_106 : decode cX7_starts 106 = .ok (.goto (-24), 3) := dk_167 255 232 (dk_at dksX7_starts_4 11 rfl rfl)
theorem dX7_starts_109 : decode cX7_starts 109 = .ok (.iconst 0, 1) := dk_3 (dk_at dksX7_starts_4 14 rfl rfl)
theorem dX7_starts_110 : decode cX7_starts 110 = .ok (.istore 5, 2) := dk_54 5 (dk_at dksX7_starts_4 15 rfl rfl)
theorem dX7_starts_112 : decode cX7_starts 112 = .ok (.iload 5, 2) := dk_21 5 (dk_at dksX7_starts_4 17 rfl rfl)
theorem dX7_starts_114 : decode cX7_starts 114 = .ok (.iconst 3, 1) := dk_6 (dk_at dksX7_starts_4 19 rfl rfl)
theorem dX7_starts_115 : decode cX7_starts 115 = .ok (.if_icmp .ge 22, 3) := dk_162 0 22 (dk_at dksX7_starts_4 20 rfl rfl)
theorem dX7_starts_118 : decode cX7_starts 118 = .ok (.aload_n 0, 1) := dk_42 (dk_at dksX7_starts_4 23 rfl rfl)
theorem dX7_starts_119 : decode cX7_starts 119 = .ok (.getfield 102, 3) := dk_180 0 102 (dk_at dksX7_starts_5 0 rfl rfl)
theorem dX7_starts_122 : decode cX7_starts 122 = .ok (.iconst 3, 1) := dk_6 (dk_at dksX7_starts_5 3 rfl rfl)
theorem dX7_starts_123 : decode cX7_starts 123 = .ok (.iload 4, 2) := dk_21 4 (dk_at dksX7_starts_5 4 rfl rfl)
theorem dX7_starts_125 : decode cX7_starts 125 = .ok (.imul, 1) := dk_104 (dk_at dksX7_starts_5 6 rfl rfl)
theorem dX7_starts_126 : decode cX7_starts 126 = .ok (.iload 5, 2) := dk_21 5 (dk_at dksX7_starts_5 7 rfl rfl)
theorem dX7_starts_128 : decode cX7_starts 128 = .ok (.iadd, 1) := dk_96 (dk_at dksX7_starts_5 9 rfl rfl)
theorem dX7_starts_129 : decode cX7_starts 129 = .ok (.iconst 0, 1) := dk_3 (dk_at dksX7_starts_5 10 rfl rfl)
theorem dX7_starts_130 : decode cX7_starts 130 = .ok (.iastore, 1) := dk_79 (dk_at dksX7_starts_5 11 rfl rfl)
theorem dX7_starts_131 : decode cX7_starts 131 = .ok (.iinc 5 1, 3) := dk_132 5 1 (dk_at dksX7_starts_5 12 rfl rfl)
theorem dX7_starts_134 : decode cX7_starts 134 = .ok (.goto (-22), 3) := dk_167 255 234 (dk_at dksX7_starts_5 15 rfl rfl)
theorem dX7_starts_137 : decode cX7_starts 137 = .ok (.aload_n 0, 1) := dk_42 (dk_at dksX7_starts_5 18 rfl rfl)
theorem dX7_starts_138 : decode cX7_starts 138 = .ok (.dup, 1) := dk_89 (dk_at dksX7_starts_5 19 rfl rfl)
theorem dX7_starts_139 : decode cX7_starts 139 = .ok (.getfield 271, 3) := dk_180 1 15 (dk_at dksX7_starts_5 20 rfl rfl)
theorem dX7_starts_142 : decode cX7_starts 142 = .ok (.iconst 1, 1) := dk_4 (dk_at dksX7_starts_5 23 rfl rfl)
theorem dX7_starts_143 : decode cX7_starts 143 = .ok (.iadd, 1) := dk_96 (dk_at dksX7_starts_6 0 rfl rfl)
theorem dX7_starts_144 : decode cX7_starts 144 = .ok (.putfield 271, 3) := dk_181 1 15 (dk_at dksX7_starts_6 1 rfl rfl)
theorem dX7_starts_147 : decode cX7_starts 147 = .ok (.aload_n 0, 1) := dk_42 (dk_at dksX7_starts_6 4 rfl rfl)
theorem dX7_starts_148 : decode cX7_starts 148 = .ok (.getfield 271, 3) := dk_180 1 15 (dk_at dksX7_starts_6 5 rfl rfl)
theorem dX7_starts_151 : decode cX7_starts 151 = .ok (.iconst 1, 1) := dk_4 (dk_at dksX7_starts_6 8 rfl rfl)
theorem dX7_starts_152 : decode cX7_starts 152 = .ok (.isub, 1) := dk_100 (dk_at dksX7_starts_6 9 rfl rfl)
theorem dX7_starts_153 : decode cX7_starts 153 = .ok (.ireturn, 1) := dk_172 (dk_at dksX7_starts_6 10 rfl rfl)
abbrev cX7_stop : ByteArray := prog_17_method_32_code
def yX7_stop : MethodName := ⟨RX7, "stop", "(I)I"⟩
def dkwX7_stop_1 : List UInt8 := [158, 0, 5, 3, 172, 42, 28, 182, 1, 27, 42, 182, 1, 9, 172]
abbrev dktX7_stop_1 : List UInt8 := dkwX7_stop_1 ++ []
def dkwX7_stop_0 : List UInt8 := [42, 27, 182, 1, 24, 61, 42, 28, 2, 160, 0, 7, 4, 167, 0, 4, 3, 181, 0, 189, 42, 180, 0, 189]
abbrev dktX7_stop_0 : List UInt8 := dkwX7_stop_0 ++ dktX7_stop_1
theorem dksX7_stop_0 : cX7_stop.data.toList.drop 0 = dktX7_stop_0 := by decide +kernel
theorem dksX7_stop_1 : cX7_stop.data.toList.drop 24 = dktX7_stop_1 := dk_seg dksX7_stop_0 24 rfl rfl
theorem dX7_stop_0 : decode cX7_stop 0 = .ok (.aload_n 0, 1) := dk_42 (dk_at dksX7_stop_0 0 rfl rfl)
theorem dX7_stop_1 : decode cX7_stop 1 = .ok (.iload_n 1, 1) := dk_27 (dk_at dksX7_stop_0 1 rfl rfl)
theorem dX7_stop_2 : decode cX7_stop 2 = .ok (.invokevirtual 280, 3) := dk_182 1 24 (dk_at dksX7_stop_0 2 rfl rfl)
theorem dX7_stop_5 : decode cX7_stop 5 = .ok (.istore_n 2, 1) := dk_61 (dk_at dksX7_stop_0 5 rfl rfl)
theorem dX7_stop_6 : decode cX7_stop 6 = .ok (.aload_n 0, 1) := dk_42 (dk_at dksX7_stop_0 6 rfl rfl)
theorem dX7_stop_7 : decode cX7_stop 7 = .ok (.iload_n 2, 1) := dk_28 (dk_at dksX7_stop_0 7 rfl rfl)
theorem dX7_stop_8 : decode cX7_stop 8 = .ok (.iconst (-1), 1) := dk_2 (dk_at dksX7_stop_0 8 rfl rfl)
theorem dX7_stop_9 : decode cX7_stop 9 = .ok (.if_icmp .ne 7, 3) := dk_160 0 7 (dk_at dksX7_stop_0 9 rfl rfl)
theorem dX7_stop_12 : decode cX7_stop 12 = .ok (.iconst 1, 1) := dk_4 (dk_at dksX7_stop_0 12 rfl rfl)
theorem dX7_stop_13 : decode cX7_stop 13 = .ok (.goto 4, 3) := dk_167 0 4 (dk_at dksX7_stop_0 13 rfl rfl)
theorem dX7_stop_16 : decode cX7_stop 16 = .ok (.iconst 0, 1) := dk_3 (dk_at dksX7_stop_0 16 rfl rfl)
theorem dX7_stop_17 : decode cX7_stop 17 = .ok (.putfield 189, 3) := dk_181 0 189 (dk_at dksX7_stop_0 17 rfl rfl)
theorem dX7_stop_20 : decode cX7_stop 20 = .ok (.aload_n 0, 1) := dk_42 (dk_at dksX7_stop_0 20 rfl rfl)
theorem dX7_stop_21 : decode cX7_stop 21 = .ok (.getfield 189, 3) := dk_180 0 189 (dk_at dksX7_stop_0 21 rfl rfl)
theorem dX7_stop_24 : decode cX7_stop 24 = .ok (.ifCond .le 5, 3) := dk_158 0 5 (dk_at dksX7_stop_1 0 rfl rfl)
theorem dX7_stop_27 : decode cX7_stop 27 = .ok (.iconst 0, 1) := dk_3 (dk_at dksX7_stop_1 3 rfl rfl)
theorem dX7_stop_28 : decode cX7_stop 28 = .ok (.ireturn, 1) := dk_172 (dk_at dksX7_stop_1 4 rfl rfl)
theorem dX7_stop_29 : decode cX7_stop 29 = .ok (.aload_n 0, 1) := dk_42 (dk_at dksX7_stop_1 5 rfl rfl)
theorem dX7_stop_30 : decode cX7_stop 30 = .ok (.iload_n 2, 1) := dk_28 (dk_at dksX7_stop_1 6 rfl rfl)
theorem dX7_stop_31 : decode cX7_stop 31 = .ok (.invokevirtual 283, 3) := dk_182 1 27 (dk_at dksX7_stop_1 7 rfl rfl)
theorem dX7_stop_34 : decode cX7_stop 34 = .ok (.aload_n 0, 1) := dk_42 (dk_at dksX7_stop_1 10 rfl rfl)
theorem dX7_stop_35 : decode cX7_stop 35 = .ok (.invokevirtual 265, 3) := dk_182 1 9 (dk_at dksX7_stop_1 11 rfl rfl)
theorem dX7_stop_38 : decode cX7_stop 38 = .ok (.ireturn, 1) := dk_172 (dk_at dksX7_stop_1 14 rfl rfl)
abbrev cX7_placeOf : ByteArray := prog_17_method_25_code
def yX7_placeOf : MethodName := ⟨RX7, "placeOf", "(I)I"⟩
def dkwX7_placeOf_1 : List UInt8 := [29, 167, 0, 4, 28, 61, 132, 3, 1, 167, 255, 227, 28, 172]
abbrev dktX7_placeOf_1 : List UInt8 := dkwX7_placeOf_1 ++ []
def dkwX7_placeOf_0 : List UInt8 := [2, 61, 3, 62, 29, 16, 8, 162, 0, 29, 27, 155, 0, 25, 42, 180, 0, 50, 29, 46, 27, 160, 0, 7]
abbrev dktX7_placeOf_0 : List UInt8 := dkwX7_placeOf_0 ++ dktX7_placeOf_1
theorem dksX7_placeOf_0 : cX7_placeOf.data.toList.drop 0 = dktX7_placeOf_0 := by decide +kernel
theorem dksX7_placeOf_1 : cX7_placeOf.data.toList.drop 24 = dktX7_placeOf_1 := dk_seg dksX7_placeOf_0 24 rfl rfl
theorem dX7_placeOf_0 : decode cX7_placeOf 0 = .ok (.iconst (-1), 1) := dk_2 (dk_at dksX7_placeOf_0 0 rfl rfl)
theorem dX7_placeOf_1 : decode cX7_placeOf 1 = .ok (.istore_n 2, 1) := dk_61 (dk_at dksX7_placeOf_0 1 rfl rfl)
theorem dX7_placeOf_2 : decode cX7_placeOf 2 = .ok (.iconst 0, 1) := dk_3 (dk_at dksX7_placeOf_0 2 rfl rfl)
theorem dX7_placeOf_3 : decode cX7_placeOf 3 = .ok (.istore_n 3, 1) := dk_62 (dk_at dksX7_placeOf_0 3 rfl rfl)
theorem dX7_placeOf_4 : decode cX7_placeOf 4 = .ok (.iload_n 3, 1) := dk_29 (dk_at dksX7_placeOf_0 4 rfl rfl)
theorem dX7_placeOf_5 : decode cX7_placeOf 5 = .ok (.bipush 8, 2) := dk_16 8 (dk_at dksX7_placeOf_0 5 rfl rfl)
theorem dX7_placeOf_7 : decode cX7_placeOf 7 = .ok (.if_icmp .ge 29, 3) := dk_162 0 29 (dk_at dksX7_placeOf_0 7 rfl rfl)
theorem dX7_placeOf_10 : decode cX7_placeOf 10 = .ok (.iload_n 1, 1) := dk_27 (dk_at dksX7_placeOf_0 10 rfl rfl)
theorem dX7_placeOf_11 : decode cX7_placeOf 11 = .ok (.ifCond .lt 25, 3) := dk_155 0 25 (dk_at dksX7_placeOf_0 11 rfl rfl)
theorem dX7_placeOf_14 : decode cX7_placeOf 14 = .ok (.aload_n 0, 1) := dk_42 (dk_at dksX7_placeOf_0 14 rfl rfl)
theorem dX7_placeOf_15 : decode cX7_placeOf 15 = .ok (.getfield 50, 3) := dk_180 0 50 (dk_at dksX7_placeOf_0 15 rfl rfl)
theorem dX7_placeOf_18 : decode cX7_placeOf 18 = .ok (.iload_n 3, 1) := dk_29 (dk_at dksX7_placeOf_0 18 rfl rfl)
theorem dX7_placeOf_19 : decode cX7_placeOf 19 = .ok (.iaload, 1) := dk_46 (dk_at dksX7_placeOf_0 19 rfl rfl)
theorem dX7_placeOf_20 : decode cX7_placeOf 20 = .ok (.iload_n 1, 1) := dk_27 (dk_at dksX7_placeOf_0 20 rfl rfl)
theorem dX7_placeOf_21 : decode cX7_placeOf 21 = .ok (.if_icmp .ne 7, 3) := dk_160 0 7 (dk_at dksX7_placeOf_0 21 rfl rfl)
theorem dX7_placeOf_24 : decode cX7_placeOf 24 = .ok (.iload_n 3, 1) := dk_29 (dk_at dksX7_placeOf_1 0 rfl rfl)
theorem dX7_placeOf_25 : decode cX7_placeOf 25 = .ok (.goto 4, 3) := dk_167 0 4 (dk_at dksX7_placeOf_1 1 rfl rfl)
theorem dX7_placeOf_28 : decode cX7_placeOf 28 = .ok (.iload_n 2, 1) := dk_28 (dk_at dksX7_placeOf_1 4 rfl rfl)
theorem dX7_placeOf_29 : decode cX7_placeOf 29 = .ok (.istore_n 2, 1) := dk_61 (dk_at dksX7_placeOf_1 5 rfl rfl)
theorem dX7_placeOf_30 : decode cX7_placeOf 30 = .ok (.iinc 3 1, 3) := dk_132 3 1 (dk_at dksX7_placeOf_1 6 rfl rfl)
theorem dX7_placeOf_33 : decode cX7_placeOf 33 = .ok (.goto (-29), 3) := dk_167 255 227 (dk_at dksX7_placeOf_1 9 rfl rfl)
theorem dX7_placeOf_36 : decode cX7_placeOf 36 = .ok (.iload_n 2, 1) := dk_28 (dk_at dksX7_placeOf_1 12 rfl rfl)
theorem dX7_placeOf_37 : decode cX7_placeOf 37 = .ok (.ireturn, 1) := dk_172 (dk_at dksX7_placeOf_1 13 rfl rfl)
abbrev cX7_stops : ByteArray := prog_17_method_30_code
def yX7_stops : MethodName := ⟨RX7, "stops", "(I)V"⟩
def dkwX7_stops_4 : List UInt8 := [167, 255, 216, 42, 180, 0, 50, 27, 2, 79, 177]
abbrev dktX7_stops_4 : List UInt8 := dkwX7_stops_4 ++ []
def dkwX7_stops_3 : List UInt8 := [180, 0, 50, 27, 46, 160, 0, 7, 2, 167, 0, 9, 42, 180, 0, 105, 28, 46, 79, 132, 2, 1]
abbrev dktX7_stops_3 : List UInt8 := dkwX7_stops_3 ++ dktX7_stops_4
def dkwX7_stops_2 : List UInt8 := [167, 255, 211, 3, 61, 28, 16, 100, 162, 0, 40, 42, 180, 0, 105, 28, 42, 180, 0, 105, 28, 46, 42]
abbrev dktX7_stops_2 : List UInt8 := dkwX7_stops_2 ++ dktX7_stops_3
def dkwX7_stops_1 : List UInt8 := [180, 0, 147, 28, 46, 27, 160, 0, 7, 2, 167, 0, 9, 42, 180, 0, 144, 28, 46, 79, 132, 2, 1]
abbrev dktX7_stops_1 : List UInt8 := dkwX7_stops_1 ++ dktX7_stops_2
def dkwX7_stops_0 : List UInt8 := [3, 61, 28, 16, 50, 162, 0, 45, 42, 180, 0, 144, 28, 42, 180, 0, 144, 28, 46, 2, 159, 0, 17, 42]
abbrev dktX7_stops_0 : List UInt8 := dkwX7_stops_0 ++ dktX7_stops_1
theorem dksX7_stops_0 : cX7_stops.data.toList.drop 0 = dktX7_stops_0 := by decide +kernel
theorem dksX7_stops_1 : cX7_stops.data.toList.drop 24 = dktX7_stops_1 := dk_seg dksX7_stops_0 24 rfl rfl
theorem dksX7_stops_2 : cX7_stops.data.toList.drop 47 = dktX7_stops_2 := dk_seg dksX7_stops_1 23 rfl rfl
theorem dksX7_stops_3 : cX7_stops.data.toList.drop 70 = dktX7_stops_3 := dk_seg dksX7_stops_2 23 rfl rfl
theorem dksX7_stops_4 : cX7_stops.data.toList.drop 92 = dktX7_stops_4 := dk_seg dksX7_stops_3 22 rfl rfl
theorem dX7_stops_0 : decode cX7_stops 0 = .ok (.iconst 0, 1) := dk_3 (dk_at dksX7_stops_0 0 rfl rfl)
theorem dX7_stops_1 : decode cX7_stops 1 = .ok (.istore_n 2, 1) := dk_61 (dk_at dksX7_stops_0 1 rfl rfl)
theorem dX7_stops_2 : decode cX7_stops 2 = .ok (.iload_n 2, 1) := dk_28 (dk_at dksX7_stops_0 2 rfl rfl)
theorem dX7_stops_3 : decode cX7_stops 3 = .ok (.bipush 50, 2) := dk_16 50 (dk_at dksX7_stops_0 3 rfl rfl)
theorem dX7_stops_5 : decode cX7_stops 5 = .ok (.if_icmp .ge 45, 3) := dk_162 0 45 (dk_at dksX7_stops_0 5 rfl rfl)
theorem dX7_stops_8 : decode cX7_stops 8 = .ok (.aload_n 0, 1) := dk_42 (dk_at dksX7_stops_0 8 rfl rfl)
theorem dX7_stops_9 : decode cX7_stops 9 = .ok (.getfield 144, 3) := dk_180 0 144 (dk_at dksX7_stops_0 9 rfl rfl)
theorem dX7_stops_12 : decode cX7_stops 12 = .ok (.iload_n 2, 1) := dk_28 (dk_at dksX7_stops_0 12 rfl rfl)
theorem dX7_stops_13 : decode cX7_stops 13 = .ok (.aload_n 0, 1) := dk_42 (dk_at dksX7_stops_0 13 rfl rfl)
theorem dX7_stops_14 : decode cX7_stops 14 = .ok (.getfield 144, 3) := dk_180 0 144 (dk_at dksX7_stops_0 14 rfl rfl)
theorem dX7_stops_17 : decode cX7_stops 17 = .ok (.iload_n 2, 1) := dk_28 (dk_at dksX7_stops_0 17 rfl rfl)
theorem dX7_stops_18 : decode cX7_stops 18 = .ok (.iaload, 1) := dk_46 (dk_at dksX7_stops_0 18 rfl rfl)
theorem dX7_stops_19 : decode cX7_stops 19 = .ok (.iconst (-1), 1) := dk_2 (dk_at dksX7_stops_0 19 rfl rfl)
theorem dX7_stops_20 : decode cX7_stops 20 = .ok (.if_icmp .eq 17, 3) := dk_159 0 17 (dk_at dksX7_stops_0 20 rfl rfl)
theorem dX7_stops_23 : decode cX7_stops 23 = .ok (.aload_n 0, 1) := dk_42 (dk_at dksX7_stops_0 23 rfl rfl)
theorem dX7_stops_24 : decode cX7_stops 24 = .ok (.getfield 147, 3) := dk_180 0 147 (dk_at dksX7_stops_1 0 rfl rfl)
theorem dX7_stops_27 : decode cX7_stops 27 = .ok (.iload_n 2, 1) := dk_28 (dk_at dksX7_stops_1 3 rfl rfl)
theorem dX7_stops_28 : decode cX7_stops 28 = .ok (.iaload, 1) := dk_46 (dk_at dksX7_stops_1 4 rfl rfl)
theorem dX7_stops_29 : decode cX7_stops 29 = .ok (.iload_n 1, 1) := dk_27 (dk_at dksX7_stops_1 5 rfl rfl)
theorem dX7_stops_30 : decode cX7_stops 30 = .ok (.if_icmp .ne 7, 3) := dk_160 0 7 (dk_at dksX7_stops_1 6 rfl rfl)
theorem dX7_stops_33 : decode cX7_stops 33 = .ok (.iconst (-1), 1) := dk_2 (dk_at dksX7_stops_1 9 rfl rfl)
theorem dX7_stops_34 : decode cX7_stops 34 = .ok (.goto 9, 3) := dk_167 0 9 (dk_at dksX7_stops_1 10 rfl rfl)
theorem dX7_stops_37 : decode cX7_stops 37 = .ok (.aload_n 0, 1) := dk_42 (dk_at dksX7_stops_1 13 rfl rfl)
theorem dX7_stops_38 : decode cX7_stops 38 = .ok (.getfield 144, 3) := dk_180 0 144 (dk_at dksX7_stops_1 14 rfl rfl)
theorem dX7_stops_41 : decode cX7_stops 41 = .ok (.iload_n 2, 1) := dk_28 (dk_at dksX7_stops_1 17 rfl rfl)
theorem dX7_stops_42 : decode cX7_stops 42 = .ok (.iaload, 1) := dk_46 (dk_at dksX7_stops_1 18 rfl rfl)
theorem dX7_stops_43 : decode cX7_stops 43 = .ok (.iastore, 1) := dk_79 (dk_at dksX7_stops_1 19 rfl rfl)
theorem dX7_stops_44 : decode cX7_stops 44 = .ok (.iinc 2 1, 3) := dk_132 2 1 (dk_at dksX7_stops_1 20 rfl rfl)
theorem dX7_stops_47 : decode cX7_stops 47 = .ok (.goto (-45), 3) := dk_167 255 211 (dk_at dksX7_stops_2 0 rfl rfl)
theorem dX7_stops_50 : decode cX7_stops 50 = .ok (.iconst 0, 1) := dk_3 (dk_at dksX7_stops_2 3 rfl rfl)
theorem dX7_stops_51 : decode cX7_stops 51 = .ok (.istore_n 2, 1) := dk_61 (dk_at dksX7_stops_2 4 rfl rfl)
theorem dX7_stops_52 : decode cX7_stops 52 = .ok (.iload_n 2, 1) := dk_28 (dk_at dksX7_stops_2 5 rfl rfl)
theorem dX7_stops_53 : decode cX7_stops 53 = .ok (.bipush 100, 2) := dk_16 100 (dk_at dksX7_stops_2 6 rfl rfl)
theorem dX7_stops_55 : decode cX7_stops 55 = .ok (.if_icmp .ge 40, 3) := dk_162 0 40 (dk_at dksX7_stops_2 8 rfl rfl)
theorem dX7_stops_58 : decode cX7_stops 58 = .ok (.aload_n 0, 1) := dk_42 (dk_at dksX7_stops_2 11 rfl rfl)
theorem dX7_stops_59 : decode cX7_stops 59 = .ok (.getfield 105, 3) := dk_180 0 105 (dk_at dksX7_stops_2 12 rfl rfl)
theorem dX7_stops_62 : decode cX7_stops 62 = .ok (.iload_n 2, 1) := dk_28 (dk_at dksX7_stops_2 15 rfl rfl)
theorem dX7_stops_63 : decode cX7_stops 63 = .ok (.aload_n 0, 1) := dk_42 (dk_at dksX7_stops_2 16 rfl rfl)
theorem dX7_stops_64 : decode cX7_stops 64 = .ok (.getfield 105, 3) := dk_180 0 105 (dk_at dksX7_stops_2 17 rfl rfl)
theorem dX7_stops_67 : decode cX7_stops 67 = .ok (.iload_n 2, 1) := dk_28 (dk_at dksX7_stops_2 20 rfl rfl)
theorem dX7_stops_68 : decode cX7_stops 68 = .ok (.iaload, 1) := dk_46 (dk_at dksX7_stops_2 21 rfl rfl)
theorem dX7_stops_69 : decode cX7_stops 69 = .ok (.aload_n 0, 1) := dk_42 (dk_at dksX7_stops_2 22 rfl rfl)
theorem dX7_stops_70 : decode cX7_stops 70 = .ok (.getfield 50, 3) := dk_180 0 50 (dk_at dksX7_stops_3 0 rfl rfl)
theorem dX7_stops_73 : decode cX7_stops 73 = .ok (.iload_n 1, 1) := dk_27 (dk_at dksX7_stops_3 3 rfl rfl)
theorem dX7_stops_74 : decode cX7_stops 74 = .ok (.iaload, 1) := dk_46 (dk_at dksX7_stops_3 4 rfl rfl)
theorem dX7_stops_75 : decode cX7_stops 75 = .ok (.if_icmp .ne 7, 3) := dk_160 0 7 (dk_at dksX7_stops_3 5 rfl rfl)
theorem dX7_stops_78 : decode cX7_stops 78 = .ok (.iconst (-1), 1) := dk_2 (dk_at dksX7_stops_3 8 rfl rfl)
theorem dX7_stops_79 : decode cX7_stops 79 = .ok (.goto 9, 3) := dk_167 0 9 (dk_at dksX7_stops_3 9 rfl rfl)
theorem dX7_stops_82 : decode cX7_stops 82 = .ok (.aload_n 0, 1) := dk_42 (dk_at dksX7_stops_3 12 rfl rfl)
theorem dX7_stops_83 : decode cX7_stops 83 = .ok (.getfield 105, 3) := dk_180 0 105 (dk_at dksX7_stops_3 13 rfl rfl)
theorem dX7_stops_86 : decode cX7_stops 86 = .ok (.iload_n 2, 1) := dk_28 (dk_at dksX7_stops_3 16 rfl rfl)
theorem dX7_stops_87 : decode cX7_stops 87 = .ok (.iaload, 1) := dk_46 (dk_at dksX7_stops_3 17 rfl rfl)
theorem dX7_stops_88 : decode cX7_stops 88 = .ok (.iastore, 1) := dk_79 (dk_at dksX7_stops_3 18 rfl rfl)
theorem dX7_stops_89 : decode cX7_stops 89 = .ok (.iinc 2 1, 3) := dk_132 2 1 (dk_at dksX7_stops_3 19 rfl rfl)
theorem dX7_stops_92 : decode cX7_stops 92 = .ok (.goto (-40), 3) := dk_167 255 216 (dk_at dksX7_stops_4 0 rfl rfl)
theorem dX7_stops_95 : decode cX7_stops 95 = .ok (.aload_n 0, 1) := dk_42 (dk_at dksX7_stops_4 3 rfl rfl)
theorem dX7_stops_96 : decode cX7_stops 96 = .ok (.getfield 50, 3) := dk_180 0 50 (dk_at dksX7_stops_4 4 rfl rfl)
theorem dX7_stops_99 : decode cX7_stops 99 = .ok (.iload_n 1, 1) := dk_27 (dk_at dksX7_stops_4 7 rfl rfl)
theorem dX7_stops_100 : decode cX7_stops 100 = .ok (.iconst (-1), 1) := dk_2 (dk_at dksX7_stops_4 8 rfl rfl)
theorem dX7_stops_101 : decode cX7_stops 101 = .ok (.iastore, 1) := dk_79 (dk_at dksX7_stops_4 9 rfl rfl)
theorem dX7_stops_102 : decode cX7_stops 102 = .ok (.return_, 1) := dk_177 (dk_at dksX7_stops_4 10 rfl rfl)
abbrev cX7_container : ByteArray := prog_17_method_33_code
def yX7_container : MethodName := ⟨RX7, "container", "(II)I"⟩
def dkwX7_container_6 : List UInt8 := [167, 0, 17, 42, 180, 0, 62, 29, 51, 153, 0, 7, 4, 167, 0, 4, 3, 172]
abbrev dktX7_container_6 : List UInt8 := dkwX7_container_6 ++ []
def dkwX7_container_5 : List UInt8 := [167, 0, 41, 28, 5, 160, 0, 12, 42, 180, 0, 66, 29, 46, 167, 0, 27, 28, 6, 160, 0, 8, 21, 4]
abbrev dktX7_container_5 : List UInt8 := dkwX7_container_5 ++ dktX7_container_6
def dkwX7_container_4 : List UInt8 := [28, 154, 0, 12, 42, 180, 0, 53, 29, 46, 167, 0, 55, 28, 4, 160, 0, 12, 42, 180, 0, 56, 29, 46]
abbrev dktX7_container_4 : List UInt8 := dkwX7_container_4 ++ dktX7_container_5
def dkwX7_container_3 : List UInt8 := [180, 0, 147, 21, 5, 46, 29, 160, 0, 7, 4, 167, 0, 4, 3, 96, 54, 4, 132, 5, 1, 167, 255, 214]
abbrev dktX7_container_3 : List UInt8 := dkwX7_container_3 ++ dktX7_container_4
def dkwX7_container_2 : List UInt8 := [54, 5, 21, 5, 16, 50, 162, 0, 41, 21, 4, 42, 180, 0, 144, 21, 5, 46, 2, 159, 0, 18, 42]
abbrev dktX7_container_2 : List UInt8 := dkwX7_container_2 ++ dktX7_container_3
def dkwX7_container_1 : List UInt8 := [154, 0, 7, 5, 167, 0, 4, 3, 181, 0, 189, 42, 180, 0, 189, 158, 0, 5, 3, 172, 3, 54, 4, 3]
abbrev dktX7_container_1 : List UInt8 := dkwX7_container_1 ++ dktX7_container_2
def dkwX7_container_0 : List UInt8 := [42, 27, 182, 1, 24, 62, 42, 29, 2, 160, 0, 7, 4, 167, 0, 17, 28, 3, 7, 184, 0, 192]
abbrev dktX7_container_0 : List UInt8 := dkwX7_container_0 ++ dktX7_container_1
theorem dksX7_container_0 : cX7_container.data.toList.drop 0 = dktX7_container_0 := by decide +kernel
theorem dksX7_container_1 : cX7_container.data.toList.drop 22 = dktX7_container_1 := dk_seg dksX7_container_0 22 rfl rfl
theorem dksX7_container_2 : cX7_container.data.toList.drop 46 = dktX7_container_2 := dk_seg dksX7_container_1 24 rfl rfl
theorem dksX7_container_3 : cX7_container.data.toList.drop 69 = dktX7_container_3 := dk_seg dksX7_container_2 23 rfl rfl
theorem dksX7_container_4 : cX7_container.data.toList.drop 93 = dktX7_container_4 := dk_seg dksX7_container_3 24 rfl rfl
theorem dksX7_container_5 : cX7_container.data.toList.drop 117 = dktX7_container_5 := dk_seg dksX7_container_4 24 rfl rfl
theorem dksX7_container_6 : cX7_container.data.toList.drop 141 = dktX7_container_6 := dk_seg dksX7_container_5 24 rfl rfl
theorem dX7_container_0 : decode cX7_container 0 = .ok (.aload_n 0, 1) := dk_42 (dk_at dksX7_container_0 0 rfl rfl)
theorem dX7_container_1 : decode cX7_container 1 = .ok (.iload_n 1, 1) := dk_27 (dk_at dksX7_container_0 1 rfl rfl)
theorem dX7_container_2 : decode cX7_container 2 = .ok (.invokevirtual 280, 3) := dk_182 1 24 (dk_at dksX7_container_0 2 rfl rfl)
theorem dX7_container_5 : decode cX7_container 5 = .ok (.istore_n 3, 1) := dk_62 (dk_at dksX7_container_0 5 rfl rfl)
theorem dX7_container_6 : decode cX7_container 6 = .ok (.aload_n 0, 1) := dk_42 (dk_at dksX7_container_0 6 rfl rfl)
theorem dX7_container_7 : decode cX7_container 7 = .ok (.iload_n 3, 1) := dk_29 (dk_at dksX7_container_0 7 rfl rfl)
theorem dX7_container_8 : decode cX7_container 8 = .ok (.iconst (-1), 1) := dk_2 (dk_at dksX7_container_0 8 rfl rfl)
theorem dX7_container_9 : decode cX7_container 9 = .ok (.if_icmp .ne 7, 3) := dk_160 0 7 (dk_at dksX7_container_0 9 rfl rfl)
theorem dX7_container_12 : decode cX7_container 12 = .ok (.iconst 1, 1) := dk_4 (dk_at dksX7_container_0 12 rfl rfl)
theorem dX7_container_13 : decode cX7_container 13 = .ok (.goto 17, 3) := dk_167 0 17 (dk_at dksX7_container_0 13 rfl rfl)
theorem dX7_container_16 : decode cX7_container 16 = .ok (.iload_n 2, 1) := dk_28 (dk_at dksX7_container_0 16 rfl rfl)
theorem dX7_container_17 : decode cX7_container 17 = .ok (.iconst 0, 1) := dk_3 (dk_at dksX7_container_0 17 rfl rfl)
theorem dX7_container_18 : decode cX7_container 18 = .ok (.iconst 4, 1) := dk_7 (dk_at dksX7_container_0 18 rfl rfl)
theorem dX7_container_19 : decode cX7_container 19 = .ok (.invokestatic 192, 3) := dk_184 0 192 (dk_at dksX7_container_0 19 rfl rfl)
theorem dX7_container_22 : decode cX7_container 22 = .ok (.ifCond .ne 7, 3) := dk_154 0 7 (dk_at dksX7_container_1 0 rfl rfl)
theorem dX7_container_25 : decode cX7_container 25 = .ok (.iconst 2, 1) := dk_5 (dk_at dksX7_container_1 3 rfl rfl)
theorem dX7_container_26 : decode cX7_container 26 = .ok (.goto 4, 3) := dk_167 0 4 (dk_at dksX7_container_1 4 rfl rfl)
theorem dX7_container_29 : decode cX7_container 29 = .ok (.iconst 0, 1) := dk_3 (dk_at dksX7_container_1 7 rfl rfl)
theorem dX7_container_30 : decode cX7_container 30 = .ok (.putfield 189, 3) := dk_181 0 189 (dk_at dksX7_container_1 8 rfl rfl)
theorem dX7_container_33 : decode cX7_container 33 = .ok (.aload_n 0, 1) := dk_42 (dk_at dksX7_container_1 11 rfl rfl)
theorem dX7_container_34 : decode cX7_container 34 = .ok (.getfield 189, 3) := dk_180 0 189 (dk_at dksX7_container_1 12 rfl rfl)
theorem dX7_container_37 : decode cX7_container 37 = .ok (.ifCond .le 5, 3) := dk_158 0 5 (dk_at dksX7_container_1 15 rfl rfl)
theorem dX7_container_40 : decode cX7_container 40 = .ok (.iconst 0, 1) := dk_3 (dk_at dksX7_container_1 18 rfl rfl)
theorem dX7_container_41 : decode cX7_container 41 = .ok (.ireturn, 1) := dk_172 (dk_at dksX7_container_1 19 rfl rfl)
theorem dX7_container_42 : decode cX7_container 42 = .ok (.iconst 0, 1) := dk_3 (dk_at dksX7_container_1 20 rfl rfl)
theorem dX7_container_43 : decode cX7_container 43 = .ok (.istore 4, 2) := dk_54 4 (dk_at dksX7_container_1 21 rfl rfl)
theorem dX7_container_45 : decode cX7_container 45 = .ok (.iconst 0, 1) := dk_3 (dk_at dksX7_container_1 23 rfl rfl)
theorem dX7_container_46 : decode cX7_container 46 = .ok (.istore 5, 2) := dk_54 5 (dk_at dksX7_container_2 0 rfl rfl)
theorem dX7_container_48 : decode cX7_container 48 = .ok (.iload 5, 2) := dk_21 5 (dk_at dksX7_container_2 2 rfl rfl)
theorem dX7_container_50 : decode cX7_container 50 = .ok (.bipush 50, 2) := dk_16 50 (dk_at dksX7_container_2 4 rfl rfl)
theorem dX7_container_52 : decode cX7_container 52 = .ok (.if_icmp .ge 41, 3) := dk_162 0 41 (dk_at dksX7_container_2 6 rfl rfl)
theorem dX7_container_55 : decode cX7_container 55 = .ok (.iload 4, 2) := dk_21 4 (dk_at dksX7_container_2 9 rfl rfl)
theorem dX7_container_57 : decode cX7_container 57 = .ok (.aload_n 0, 1) := dk_42 (dk_at dksX7_container_2 11 rfl rfl)
theorem dX7_container_58 : decode cX7_container 58 = .ok (.getfield 144, 3) := dk_180 0 144 (dk_at dksX7_container_2 12 rfl rfl)
theorem dX7_container_61 : decode cX7_container 61 = .ok (.iload 5, 2) := dk_21 5 (dk_at dksX7_container_2 15 rfl rfl)
theorem dX7_container_63 : decode cX7_container 63 = .ok (.iaload, 1) := dk_46 (dk_at dksX7_container_2 17 rfl rfl)
theorem dX7_container_64 : decode cX7_container 64 = .ok (.iconst (-1), 1) := dk_2 (dk_at dksX7_container_2 18 rfl rfl)
theorem dX7_container_65 : decode cX7_container 65 = .ok (.if_icmp .eq 18, 3) := dk_159 0 18 (dk_at dksX7_container_2 19 rfl rfl)
theorem dX7_container_68 : decode cX7_container 68 = .ok (.aload_n 0, 1) := dk_42 (dk_at dksX7_container_2 22 rfl rfl)
theorem dX7_container_69 : decode cX7_container 69 = .ok (.getfield 147, 3) := dk_180 0 147 (dk_at dksX7_container_3 0 rfl rfl)
theorem dX7_container_72 : decode cX7_container 72 = .ok (.iload 5, 2) := dk_21 5 (dk_at dksX7_container_3 3 rfl rfl)
theorem dX7_container_74 : decode cX7_container 74 = .ok (.iaload, 1) := dk_46 (dk_at dksX7_container_3 5 rfl rfl)
theorem dX7_container_75 : decode cX7_container 75 = .ok (.iload_n 3, 1) := dk_29 (dk_at dksX7_container_3 6 rfl rfl)
theorem dX7_container_76 : decode cX7_container 76 = .ok (.if_icmp .ne 7, 3) := dk_160 0 7 (dk_at dksX7_container_3 7 rfl rfl)
theorem dX7_container_79 : decode cX7_container 79 = .ok (.iconst 1, 1) := dk_4 (dk_at dksX7_container_3 10 rfl rfl)
theorem dX7_container_80 : decode cX7_container 80 = .ok (.goto 4, 3) := dk_167 0 4 (dk_at dksX7_container_3 11 rfl rfl)
theorem dX7_container_83 : decode cX7_container 83 = .ok (.iconst 0, 1) := dk_3 (dk_at dksX7_container_3 14 rfl rfl)
theorem dX7_container_84 : decode cX7_container 84 = .ok (.iadd, 1) := dk_96 (dk_at dksX7_container_3 15 rfl rfl)
theorem dX7_container_85 : decode cX7_container 85 = .ok (.istore 4, 2) := dk_54 4 (dk_at dksX7_container_3 16 rfl rfl)
theorem dX7_container_87 : decode cX7_container 87 = .ok (.iinc 5 1, 3) := dk_132 5 1 (dk_at dksX7_container_3 18 rfl rfl)
theorem dX7_container_90 : decode cX7_container 90 = .ok (.goto (-42), 3) := dk_167 255 214 (dk_at dksX7_container_3 21 rfl rfl)
theorem dX7_container_93 : decode cX7_container 93 = .ok (.iload_n 2, 1) := dk_28 (dk_at dksX7_container_4 0 rfl rfl)
theorem dX7_container_94 : decode cX7_container 94 = .ok (.ifCond .ne 12, 3) := dk_154 0 12 (dk_at dksX7_container_4 1 rfl rfl)
theorem dX7_container_97 : decode cX7_container 97 = .ok (.aload_n 0, 1) := dk_42 (dk_at dksX7_container_4 4 rfl rfl)
theorem dX7_container_98 : decode cX7_container 98 = .ok (.getfield 53, 3) := dk_180 0 53 (dk_at dksX7_container_4 5 rfl rfl)
theorem dX7_container_101 : decode cX7_container 101 = .ok (.iload_n 3, 1) := dk_29 (dk_at dksX7_container_4 8 rfl rfl)
theorem dX7_container_102 : decode cX7_container 102 = .ok (.iaload, 1) := dk_46 (dk_at dksX7_container_4 9 rfl rfl)
theorem dX7_container_103 : decode cX7_container 103 = .ok (.goto 55, 3) := dk_167 0 55 (dk_at dksX7_container_4 10 rfl rfl)
theorem dX7_container_106 : decode cX7_container 106 = .ok (.iload_n 2, 1) := dk_28 (dk_at dksX7_container_4 13 rfl rfl)
theorem dX7_container_107 : decode cX7_container 107 = .ok (.iconst 1, 1) := dk_4 (dk_at dksX7_container_4 14 rfl rfl)
theorem dX7_container_108 : decode cX7_container 108 = .ok (.if_icmp .ne 12, 3) := dk_160 0 12 (dk_at dksX7_container_4 15 rfl rfl)
theorem dX7_container_111 : decode cX7_container 111 = .ok (.aload_n 0, 1) := dk_42 (dk_at dksX7_container_4 18 rfl rfl)
theorem dX7_container_112 : decode cX7_container 112 = .ok (.getfield 56, 3) := dk_180 0 56 (dk_at dksX7_container_4 19 rfl rfl)
theorem dX7_container_115 : decode cX7_container 115 = .ok (.iload_n 3, 1) := dk_29 (dk_at dksX7_container_4 22 rfl rfl)
theorem dX7_container_116 : decode cX7_container 116 = .ok (.iaload, 1) := dk_46 (dk_at dksX7_container_4 23 rfl rfl)
theorem dX7_container_117 : decode cX7_container 117 = .ok (.goto 41, 3) := dk_167 0 41 (dk_at dksX7_container_5 0 rfl rfl)
theorem dX7_container_120 : decode cX7_container 120 = .ok (.iload_n 2, 1) := dk_28 (dk_at dksX7_container_5 3 rfl rfl)
theorem dX7_container_121 : decode cX7_container 121 = .ok (.iconst 2, 1) := dk_5 (dk_at dksX7_container_5 4 rfl rfl)
theorem dX7_container_122 : decode cX7_container 122 = .ok (.if_icmp .ne 12, 3) := dk_160 0 12 (dk_at dksX7_container_5 5 rfl rfl)
theorem dX7_container_125 : decode cX7_container 125 = .ok (.aload_n 0, 1) := dk_42 (dk_at dksX7_container_5 8 rfl rfl)
theorem dX7_container_126 : decode cX7_container 126 = .ok (.getfield 66, 3) := dk_180 0 66 (dk_at dksX7_container_5 9 rfl rfl)
theorem dX7_container_129 : decode cX7_container 129 = .ok (.iload_n 3, 1) := dk_29 (dk_at dksX7_container_5 12 rfl rfl)
theorem dX7_container_130 : decode cX7_container 130 = .ok (.iaload, 1) := dk_46 (dk_at dksX7_container_5 13 rfl rfl)
theorem dX7_container_131 : decode cX7_container 131 = .ok (.goto 27, 3) := dk_167 0 27 (dk_at dksX7_container_5 14 rfl rfl)
theorem dX7_container_134 : decode cX7_container 134 = .ok (.iload_n 2, 1) := dk_28 (dk_at dksX7_container_5 17 rfl rfl)
theorem dX7_container_135 : decode cX7_container 135 = .ok (.iconst 3, 1) := dk_6 (dk_at dksX7_container_5 18 rfl rfl)
theorem dX7_container_136 : decode cX7_container 136 = .ok (.if_icmp .ne 8, 3) := dk_160 0 8 (dk_at dksX7_container_5 19 rfl rfl)
theorem dX7_container_139 : decode cX7_container 139 = .ok (.iload 4, 2) := dk_21 4 (dk_at dksX7_container_5 22 rfl rfl)
theorem dX7_container_141 : decode cX7_container 141 = .ok (.goto 17, 3) := dk_167 0 17 (dk_at dksX7_container_6 0 rfl rfl)
theorem dX7_container_144 : decode cX7_container 144 = .ok (.aload_n 0, 1) := dk_42 (dk_at dksX7_container_6 3 rfl rfl)
theorem dX7_container_145 : decode cX7_container 145 = .ok (.getfield 62, 3) := dk_180 0 62 (dk_at dksX7_container_6 4 rfl rfl)
theorem dX7_container_148 : decode cX7_container 148 = .ok (.iload_n 3, 1) := dk_29 (dk_at dksX7_container_6 7 rfl rfl)
theorem dX7_container_149 : decode cX7_container 149 = .ok (.baload, 1) := dk_51 (dk_at dksX7_container_6 8 rfl rfl)
theorem dX7_container_150 : decode cX7_container 150 = .ok (.ifCond .eq 7, 3) := dk_153 0 7 (dk_at dksX7_container_6 9 rfl rfl)
theorem dX7_container_153 : decode cX7_container 153 = .ok (.iconst 1, 1) := dk_4 (dk_at dksX7_container_6 12 rfl rfl)
theorem dX7_container_154 : decode cX7_container 154 = .ok (.goto 4, 3) := dk_167 0 4 (dk_at dksX7_container_6 13 rfl rfl)
theorem dX7_container_157 : decode cX7_container 157 = .ok (.iconst 0, 1) := dk_3 (dk_at dksX7_container_6 16 rfl rfl)
theorem dX7_container_158 : decode cX7_container 158 = .ok (.ireturn, 1) := dk_172 (dk_at dksX7_container_6 17 rfl rfl)
abbrev cX7_look : ByteArray := prog_17_method_38_code
def yX7_look : MethodName := ⟨RX7, "look", "(II)I"⟩
def dkwX7_look_2 : List UInt8 := [172]
abbrev dktX7_look_2 : List UInt8 := dkwX7_look_2 ++ []
def dkwX7_look_1 : List UInt8 := [167, 0, 4, 3, 181, 0, 189, 42, 180, 0, 189, 158, 0, 7, 3, 167, 0, 9, 42, 29, 28, 182, 1, 37]
abbrev dktX7_look_1 : List UInt8 := dkwX7_look_1 ++ dktX7_look_2
def dkwX7_look_0 : List UInt8 := [42, 27, 182, 1, 24, 62, 42, 29, 2, 160, 0, 7, 4, 167, 0, 15, 28, 184, 0, 221, 154, 0, 7, 5]
abbrev dktX7_look_0 : List UInt8 := dkwX7_look_0 ++ dktX7_look_1
theorem dksX7_look_0 : cX7_look.data.toList.drop 0 = dktX7_look_0 := by decide +kernel
theorem dksX7_look_1 : cX7_look.data.toList.drop 24 = dktX7_look_1 := dk_seg dksX7_look_0 24 rfl rfl
theorem dksX7_look_2 : cX7_look.data.toList.drop 48 = dktX7_look_2 := dk_seg dksX7_look_1 24 rfl rfl
theorem dX7_look_0 : decode cX7_look 0 = .ok (.aload_n 0, 1) := dk_42 (dk_at dksX7_look_0 0 rfl rfl)
theorem dX7_look_1 : decode cX7_look 1 = .ok (.iload_n 1, 1) := dk_27 (dk_at dksX7_look_0 1 rfl rfl)
theorem dX7_look_2 : decode cX7_look 2 = .ok (.invokevirtual 280, 3) := dk_182 1 24 (dk_at dksX7_look_0 2 rfl rfl)
theorem dX7_look_5 : decode cX7_look 5 = .ok (.istore_n 3, 1) := dk_62 (dk_at dksX7_look_0 5 rfl rfl)
theorem dX7_look_6 : decode cX7_look 6 = .ok (.aload_n 0, 1) := dk_42 (dk_at dksX7_look_0 6 rfl rfl)
theorem dX7_look_7 : decode cX7_look 7 = .ok (.iload_n 3, 1) := dk_29 (dk_at dksX7_look_0 7 rfl rfl)
theorem dX7_look_8 : decode cX7_look 8 = .ok (.iconst (-1), 1) := dk_2 (dk_at dksX7_look_0 8 rfl rfl)
theorem dX7_look_9 : decode cX7_look 9 = .ok (.if_icmp .ne 7, 3) := dk_160 0 7 (dk_at dksX7_look_0 9 rfl rfl)
theorem dX7_look_12 : decode cX7_look 12 = .ok (.iconst 1, 1) := dk_4 (dk_at dksX7_look_0 12 rfl rfl)
theorem dX7_look_13 : decode cX7_look 13 = .ok (.goto 15, 3) := dk_167 0 15 (dk_at dksX7_look_0 13 rfl rfl)
theorem dX7_look_16 : decode cX7_look 16 = .ok (.iload_n 2, 1) := dk_28 (dk_at dksX7_look_0 16 rfl rfl)
theorem dX7_look_17 : decode cX7_look 17 = .ok (.invokestatic 221, 3) := dk_184 0 221 (dk_at dksX7_look_0 17 rfl rfl)
theorem dX7_look_20 : decode cX7_look 20 = .ok (.ifCond .ne 7, 3) := dk_154 0 7 (dk_at dksX7_look_0 20 rfl rfl)
theorem dX7_look_23 : decode cX7_look 23 = .ok (.iconst 2, 1) := dk_5 (dk_at dksX7_look_0 23 rfl rfl)
theorem dX7_look_24 : decode cX7_look 24 = .ok (.goto 4, 3) := dk_167 0 4 (dk_at dksX7_look_1 0 rfl rfl)
theorem dX7_look_27 : decode cX7_look 27 = .ok (.iconst 0, 1) := dk_3 (dk_at dksX7_look_1 3 rfl rfl)
theorem dX7_look_28 : decode cX7_look 28 = .ok (.putfield 189, 3) := dk_181 0 189 (dk_at dksX7_look_1 4 rfl rfl)
theorem dX7_look_31 : decode cX7_look 31 = .ok (.aload_n 0, 1) := dk_42 (dk_at dksX7_look_1 7 rfl rfl)
theorem dX7_look_32 : decode cX7_look 32 = .ok (.getfield 189, 3) := dk_180 0 189 (dk_at dksX7_look_1 8 rfl rfl)
theorem dX7_look_35 : decode cX7_look 35 = .ok (.ifCond .le 7, 3) := dk_158 0 7 (dk_at dksX7_look_1 11 rfl rfl)
theorem dX7_look_38 : decode cX7_look 38 = .ok (.iconst 0, 1) := dk_3 (dk_at dksX7_look_1 14 rfl rfl)
theorem dX7_look_39 : decode cX7_look 39 = .ok (.goto 9, 3) := dk_167 0 9 (dk_at dksX7_look_1 15 rfl rfl)
theorem dX7_look_42 : decode cX7_look 42 = .ok (.aload_n 0, 1) := dk_42 (dk_at dksX7_look_1 18 rfl rfl)
theorem dX7_look_43 : decode cX7_look 43 = .ok (.iload_n 3, 1) := dk_29 (dk_at dksX7_look_1 19 rfl rfl)
theorem dX7_look_44 : decode cX7_look 44 = .ok (.iload_n 2, 1) := dk_28 (dk_at dksX7_look_1 20 rfl rfl)
theorem dX7_look_45 : decode cX7_look 45 = .ok (.invokevirtual 293, 3) := dk_182 1 37 (dk_at dksX7_look_1 21 rfl rfl)
theorem dX7_look_48 : decode cX7_look 48 = .ok (.ireturn, 1) := dk_172 (dk_at dksX7_look_2 0 rfl rfl)
abbrev cX7_looks : ByteArray := prog_17_method_37_code
def yX7_looks : MethodName := ⟨RX7, "looks", "(II)I"⟩
def dkwX7_looks_3 : List UInt8 := [96, 46, 96, 172, 42, 42, 180, 0, 53, 27, 46, 27, 28, 182, 1, 3, 172]
abbrev dktX7_looks_3 : List UInt8 := dkwX7_looks_3 ++ []
def dkwX7_looks_2 : List UInt8 := [96, 46, 2, 160, 0, 7, 3, 167, 0, 20, 16, 10, 42, 180, 0, 90, 16, 10, 29, 104, 28, 16, 10, 112]
abbrev dktX7_looks_2 : List UInt8 := dkwX7_looks_2 ++ dktX7_looks_3
def dkwX7_looks_1 : List UInt8 := [16, 10, 108, 182, 1, 31, 62, 29, 2, 159, 0, 21, 42, 180, 0, 90, 16, 10, 29, 104, 28, 16, 10, 112]
abbrev dktX7_looks_1 : List UInt8 := dkwX7_looks_1 ++ dktX7_looks_2
def dkwX7_looks_0 : List UInt8 := [42, 27, 28, 182, 1, 31, 2, 159, 0, 5, 5, 172, 42, 27, 28, 182, 1, 34, 153, 0, 58, 42, 27, 28]
abbrev dktX7_looks_0 : List UInt8 := dkwX7_looks_0 ++ dktX7_looks_1
theorem dksX7_looks_0 : cX7_looks.data.toList.drop 0 = dktX7_looks_0 := by decide +kernel
theorem dksX7_looks_1 : cX7_looks.data.toList.drop 24 = dktX7_looks_1 := dk_seg dksX7_looks_0 24 rfl rfl
theorem dksX7_looks_2 : cX7_looks.data.toList.drop 48 = dktX7_looks_2 := dk_seg dksX7_looks_1 24 rfl rfl
theorem dksX7_looks_3 : cX7_looks.data.toList.drop 72 = dktX7_looks_3 := dk_seg dksX7_looks_2 24 rfl rfl
theorem dX7_looks_0 : decode cX7_looks 0 = .ok (.aload_n 0, 1) := dk_42 (dk_at dksX7_looks_0 0 rfl rfl)
theorem dX7_looks_1 : decode cX7_looks 1 = .ok (.iload_n 1, 1) := dk_27 (dk_at dksX7_looks_0 1 rfl rfl)
theorem dX7_looks_2 : decode cX7_looks 2 = .ok (.iload_n 2, 1) := dk_28 (dk_at dksX7_looks_0 2 rfl rfl)
theorem dX7_looks_3 : decode cX7_looks 3 = .ok (.invokevirtual 287, 3) := dk_182 1 31 (dk_at dksX7_looks_0 3 rfl rfl)
theorem dX7_looks_6 : decode cX7_looks 6 = .ok (.iconst (-1), 1) := dk_2 (dk_at dksX7_looks_0 6 rfl rfl)
theorem dX7_looks_7 : decode cX7_looks 7 = .ok (.if_icmp .eq 5, 3) := dk_159 0 5 (dk_at dksX7_looks_0 7 rfl rfl)
theorem dX7_looks_10 : decode cX7_looks 10 = .ok (.iconst 2, 1) := dk_5 (dk_at dksX7_looks_0 10 rfl rfl)
theorem dX7_looks_11 : decode cX7_looks 11 = .ok (.ireturn, 1) := dk_172 (dk_at dksX7_looks_0 11 rfl rfl)
theorem dX7_looks_12 : decode cX7_looks 12 = .ok (.aload_n 0, 1) := dk_42 (dk_at dksX7_looks_0 12 rfl rfl)
theorem dX7_looks_13 : decode cX7_looks 13 = .ok (.iload_n 1, 1) := dk_27 (dk_at dksX7_looks_0 13 rfl rfl)
theorem dX7_looks_14 : decode cX7_looks 14 = .ok (.iload_n 2, 1) := dk_28 (dk_at dksX7_looks_0 14 rfl rfl)
theorem dX7_looks_15 : decode cX7_looks 15 = .ok (.invokevirtual 290, 3) := dk_182 1 34 (dk_at dksX7_looks_0 15 rfl rfl)
theorem dX7_looks_18 : decode cX7_looks 18 = .ok (.ifCond .eq 58, 3) := dk_153 0 58 (dk_at dksX7_looks_0 18 rfl rfl)
theorem dX7_looks_21 : decode cX7_looks 21 = .ok (.aload_n 0, 1) := dk_42 (dk_at dksX7_looks_0 21 rfl rfl)
theorem dX7_looks_22 : decode cX7_looks 22 = .ok (.iload_n 1, 1) := dk_27 (dk_at dksX7_looks_0 22 rfl rfl)
theorem dX7_looks_23 : decode cX7_looks 23 = .ok (.iload_n 2, 1) := dk_28 (dk_at dksX7_looks_0 23 rfl rfl)
theorem dX7_looks_24 : decode cX7_looks 24 = .ok (.bipush 10, 2) := dk_16 10 (dk_at dksX7_looks_1 0 rfl rfl)
theorem dX7_looks_26 : decode cX7_looks 26 = .ok (.idiv, 1) := dk_108 (dk_at dksX7_looks_1 2 rfl rfl)
theorem dX7_looks_27 : decode cX7_looks 27 = .ok (.invokevirtual 287, 3) := dk_182 1 31 (dk_at dksX7_looks_1 3 rfl rfl)
theorem dX7_looks_30 : decode cX7_looks 30 = .ok (.istore_n 3, 1) := dk_62 (dk_at dksX7_looks_1 6 rfl rfl)
theorem dX7_looks_31 : decode cX7_looks 31 = .ok (.iload_n 3, 1) := dk_29 (dk_at dksX7_looks_1 7 rfl rfl)
theorem dX7_looks_32 : decode cX7_looks 32 = .ok (.iconst (-1), 1) := dk_2 (dk_at dksX7_looks_1 8 rfl rfl)
theorem dX7_looks_33 : decode cX7_looks 33 = .ok (.if_icmp .eq 21, 3) := dk_159 0 21 (dk_at dksX7_looks_1 9 rfl rfl)
theorem dX7_looks_36 : decode cX7_looks 36 = .ok (.aload_n 0, 1) := dk_42 (dk_at dksX7_looks_1 12 rfl rfl)
theorem dX7_looks_37 : decode cX7_looks 37 = .ok (.getfield 90, 3) := dk_180 0 90 (dk_at dksX7_looks_1 13 rfl rfl)
theorem dX7_looks_40 : decode cX7_looks 40 = .ok (.bipush 10, 2) := dk_16 10 (dk_at dksX7_looks_1 16 rfl rfl)
theorem dX7_looks_42 : decode cX7_looks 42 = .ok (.iload_n 3, 1) := dk_29 (dk_at dksX7_looks_1 18 rfl rfl)
theorem dX7_looks_43 : decode cX7_looks 43 = .ok (.imul, 1) := dk_104 (dk_at dksX7_looks_1 19 rfl rfl)
theorem dX7_looks_44 : decode cX7_looks 44 = .ok (.iload_n 2, 1) := dk_28 (dk_at dksX7_looks_1 20 rfl rfl)
theorem dX7_looks_45 : decode cX7_looks 45 = .ok (.bipush 10, 2) := dk_16 10 (dk_at dksX7_looks_1 21 rfl rfl)
theorem dX7_looks_47 : decode cX7_looks 47 = .ok (.irem, 1) := dk_112 (dk_at dksX7_looks_1 23 rfl rfl)
theorem dX7_looks_48 : decode cX7_looks 48 = .ok (.iadd, 1) := dk_96 (dk_at dksX7_looks_2 0 rfl rfl)
theorem dX7_looks_49 : decode cX7_looks 49 = .ok (.iaload, 1) := dk_46 (dk_at dksX7_looks_2 1 rfl rfl)
theorem dX7_looks_50 : decode cX7_looks 50 = .ok (.iconst (-1), 1) := dk_2 (dk_at dksX7_looks_2 2 rfl rfl)
theorem dX7_looks_51 : decode cX7_looks 51 = .ok (.if_icmp .ne 7, 3) := dk_160 0 7 (dk_at dksX7_looks_2 3 rfl rfl)
theorem dX7_looks_54 : decode cX7_looks 54 = .ok (.iconst 0, 1) := dk_3 (dk_at dksX7_looks_2 6 rfl rfl)
theorem dX7_looks_55 : decode cX7_looks 55 = .ok (.goto 20, 3) := dk_167 0 20 (dk_at dksX7_looks_2 7 rfl rfl)
theorem dX7_looks_58 : decode cX7_looks 58 = .ok (.bipush 10, 2) := dk_16 10 (dk_at dksX7_looks_2 10 rfl rfl)
theorem dX7_looks_60 : decode cX7_looks 60 = .ok (.aload_n 0, 1) := dk_42 (dk_at dksX7_looks_2 12 rfl rfl)
theorem dX7_looks_61 : decode cX7_looks 61 = .ok (.getfield 90, 3) := dk_180 0 90 (dk_at dksX7_looks_2 13 rfl rfl)
theorem dX7_looks_64 : decode cX7_looks 64 = .ok (.bipush 10, 2) := dk_16 10 (dk_at dksX7_looks_2 16 rfl rfl)
theorem dX7_looks_66 : decode cX7_looks 66 = .ok (.iload_n 3, 1) := dk_29 (dk_at dksX7_looks_2 18 rfl rfl)
theorem dX7_looks_67 : decode cX7_looks 67 = .ok (.imul, 1) := dk_104 (dk_at dksX7_looks_2 19 rfl rfl)
theorem dX7_looks_68 : decode cX7_looks 68 = .ok (.iload_n 2, 1) := dk_28 (dk_at dksX7_looks_2 20 rfl rfl)
theorem dX7_looks_69 : decode cX7_looks 69 = .ok (.bipush 10, 2) := dk_16 10 (dk_at dksX7_looks_2 21 rfl rfl)
theorem dX7_looks_71 : decode cX7_looks 71 = .ok (.irem, 1) := dk_112 (dk_at dksX7_looks_2 23 rfl rfl)
theorem dX7_looks_72 : decode cX7_looks 72 = .ok (.iadd, 1) := dk_96 (dk_at dksX7_looks_3 0 rfl rfl)
theorem dX7_looks_73 : decode cX7_looks 73 = .ok (.iaload, 1) := dk_46 (dk_at dksX7_looks_3 1 rfl rfl)
theorem dX7_looks_74 : decode cX7_looks 74 = .ok (.iadd, 1) := dk_96 (dk_at dksX7_looks_3 2 rfl rfl)
theorem dX7_looks_75 : decode cX7_looks 75 = .ok (.ireturn, 1) := dk_172 (dk_at dksX7_looks_3 3 rfl rfl)
theorem dX7_looks_76 : decode cX7_looks 76 = .ok (.aload_n 0, 1) := dk_42 (dk_at dksX7_looks_3 4 rfl rfl)
theorem dX7_looks_77 : decode cX7_looks 77 = .ok (.aload_n 0, 1) := dk_42 (dk_at dksX7_looks_3 5 rfl rfl)
theorem dX7_looks_78 : decode cX7_looks 78 = .ok (.getfield 53, 3) := dk_180 0 53 (dk_at dksX7_looks_3 6 rfl rfl)
theorem dX7_looks_81 : decode cX7_looks 81 = .ok (.iload_n 1, 1) := dk_27 (dk_at dksX7_looks_3 9 rfl rfl)
theorem dX7_looks_82 : decode cX7_looks 82 = .ok (.iaload, 1) := dk_46 (dk_at dksX7_looks_3 10 rfl rfl)
theorem dX7_looks_83 : decode cX7_looks 83 = .ok (.iload_n 1, 1) := dk_27 (dk_at dksX7_looks_3 11 rfl rfl)
theorem dX7_looks_84 : decode cX7_looks 84 = .ok (.iload_n 2, 1) := dk_28 (dk_at dksX7_looks_3 12 rfl rfl)
theorem dX7_looks_85 : decode cX7_looks 85 = .ok (.invokevirtual 259, 3) := dk_182 1 3 (dk_at dksX7_looks_3 13 rfl rfl)
theorem dX7_looks_88 : decode cX7_looks 88 = .ok (.ireturn, 1) := dk_172 (dk_at dksX7_looks_3 16 rfl rfl)
abbrev cX7_mounted : ByteArray := prog_17_method_34_code
def yX7_mounted : MethodName := ⟨RX7, "mounted", "(II)I"⟩
def dkwX7_mounted_1 : List UInt8 := [2, 172]
abbrev dktX7_mounted_1 : List UInt8 := dkwX7_mounted_1 ++ []
def dkwX7_mounted_0 : List UInt8 := [28, 4, 16, 99, 184, 0, 192, 153, 0, 17, 42, 180, 0, 87, 16, 100, 27, 104, 28, 96, 46, 167, 0, 4]
abbrev dktX7_mounted_0 : List UInt8 := dkwX7_mounted_0 ++ dktX7_mounted_1
theorem dksX7_mounted_0 : cX7_mounted.data.toList.drop 0 = dktX7_mounted_0 := by decide +kernel
theorem dksX7_mounted_1 : cX7_mounted.data.toList.drop 24 = dktX7_mounted_1 := dk_seg dksX7_mounted_0 24 rfl rfl
theorem dX7_mounted_0 : decode cX7_mounted 0 = .ok (.iload_n 2, 1) := dk_28 (dk_at dksX7_mounted_0 0 rfl rfl)
theorem dX7_mounted_1 : decode cX7_mounted 1 = .ok (.iconst 1, 1) := dk_4 (dk_at dksX7_mounted_0 1 rfl rfl)
theorem dX7_mounted_2 : decode cX7_mounted 2 = .ok (.bipush 99, 2) := dk_16 99 (dk_at dksX7_mounted_0 2 rfl rfl)
theorem dX7_mounted_4 : decode cX7_mounted 4 = .ok (.invokestatic 192, 3) := dk_184 0 192 (dk_at dksX7_mounted_0 4 rfl rfl)
theorem dX7_mounted_7 : decode cX7_mounted 7 = .ok (.ifCond .eq 17, 3) := dk_153 0 17 (dk_at dksX7_mounted_0 7 rfl rfl)
theorem dX7_mounted_10 : decode cX7_mounted 10 = .ok (.aload_n 0, 1) := dk_42 (dk_at dksX7_mounted_0 10 rfl rfl)
theorem dX7_mounted_11 : decode cX7_mounted 11 = .ok (.getfield 87, 3) := dk_180 0 87 (dk_at dksX7_mounted_0 11 rfl rfl)
theorem dX7_mounted_14 : decode cX7_mounted 14 = .ok (.bipush 100, 2) := dk_16 100 (dk_at dksX7_mounted_0 14 rfl rfl)
theorem dX7_mounted_16 : decode cX7_mounted 16 = .ok (.iload_n 1, 1) := dk_27 (dk_at dksX7_mounted_0 16 rfl rfl)
theorem dX7_mounted_17 : decode cX7_mounted 17 = .ok (.imul, 1) := dk_104 (dk_at dksX7_mounted_0 17 rfl rfl)
theorem dX7_mounted_18 : decode cX7_mounted 18 = .ok (.iload_n 2, 1) := dk_28 (dk_at dksX7_mounted_0 18 rfl rfl)
theorem dX7_mounted_19 : decode cX7_mounted 19 = .ok (.iadd, 1) := dk_96 (dk_at dksX7_mounted_0 19 rfl rfl)
theorem dX7_mounted_20 : decode cX7_mounted 20 = .ok (.iaload, 1) := dk_46 (dk_at dksX7_mounted_0 20 rfl rfl)
theorem dX7_mounted_21 : decode cX7_mounted 21 = .ok (.goto 4, 3) := dk_167 0 4 (dk_at dksX7_mounted_0 21 rfl rfl)
theorem dX7_mounted_24 : decode cX7_mounted 24 = .ok (.iconst (-1), 1) := dk_2 (dk_at dksX7_mounted_1 0 rfl rfl)
theorem dX7_mounted_25 : decode cX7_mounted 25 = .ok (.ireturn, 1) := dk_172 (dk_at dksX7_mounted_1 1 rfl rfl)
abbrev cX7_isInVolume : ByteArray := prog_17_method_35_code
def yX7_isInVolume : MethodName := ⟨RX7, "isInVolume", "(II)Z"⟩
def dkwX7_isInVolume_1 : List UInt8 := [159, 0, 7, 4, 167, 0, 4, 3, 172]
abbrev dktX7_isInVolume_1 : List UInt8 := dkwX7_isInVolume_1 ++ []
def dkwX7_isInVolume_0 : List UInt8 := [42, 27, 28, 16, 10, 108, 182, 1, 31, 2, 160, 0, 16, 42, 27, 28, 16, 100, 108, 182, 1, 31, 2]
abbrev dktX7_isInVolume_0 : List UInt8 := dkwX7_isInVolume_0 ++ dktX7_isInVolume_1
theorem dksX7_isInVolume_0 : cX7_isInVolume.data.toList.drop 0 = dktX7_isInVolume_0 := by decide +kernel
theorem dksX7_isInVolume_1 : cX7_isInVolume.data.toList.drop 23 = dktX7_isInVolume_1 := dk_seg dksX7_isInVolume_0 23 rfl rfl
theorem dX7_isInVolume_0 : decode cX7_isInVolume 0 = .ok (.aload_n 0, 1) := dk_42 (dk_at dksX7_isInVolume_0 0 rfl rfl)
theorem dX7_isInVolume_1 : decode cX7_isInVolume 1 = .ok (.iload_n 1, 1) := dk_27 (dk_at dksX7_isInVolume_0 1 rfl rfl)
theorem dX7_isInVolume_2 : decode cX7_isInVolume 2 = .ok (.iload_n 2, 1) := dk_28 (dk_at dksX7_isInVolume_0 2 rfl rfl)
theorem dX7_isInVolume_3 : decode cX7_isInVolume 3 = .ok (.bipush 10, 2) := dk_16 10 (dk_at dksX7_isInVolume_0 3 rfl rfl)
theorem dX7_isInVolume_5 : decode cX7_isInVolume 5 = .ok (.idiv, 1) := dk_108 (dk_at dksX7_isInVolume_0 5 rfl rfl)
theorem dX7_isInVolume_6 : decode cX7_isInVolume 6 = .ok (.invokevirtual 287, 3) := dk_182 1 31 (dk_at dksX7_isInVolume_0 6 rfl rfl)
theorem dX7_isInVolume_9 : decode cX7_isInVolume 9 = .ok (.iconst (-1), 1) := dk_2 (dk_at dksX7_isInVolume_0 9 rfl rfl)
theorem dX7_isInVolume_10 : decode cX7_isInVolume 10 = .ok (.if_icmp .ne 16, 3) := dk_160 0 16 (dk_at dksX7_isInVolume_0 10 rfl rfl)
theorem dX7_isInVolume_13 : decode cX7_isInVolume 13 = .ok (.aload_n 0, 1) := dk_42 (dk_at dksX7_isInVolume_0 13 rfl rfl)
theorem dX7_isInVolume_14 : decode cX7_isInVolume 14 = .ok (.iload_n 1, 1) := dk_27 (dk_at dksX7_isInVolume_0 14 rfl rfl)
theorem dX7_isInVolume_15 : decode cX7_isInVolume 15 = .ok (.iload_n 2, 1) := dk_28 (dk_at dksX7_isInVolume_0 15 rfl rfl)
theorem dX7_isInVolume_16 : decode cX7_isInVolume 16 = .ok (.bipush 100, 2) := dk_16 100 (dk_at dksX7_isInVolume_0 16 rfl rfl)
theorem dX7_isInVolume_18 : decode cX7_isInVolume 18 = .ok (.idiv, 1) := dk_108 (dk_at dksX7_isInVolume_0 18 rfl rfl)
theorem dX7_isInVolume_19 : decode cX7_isInVolume 19 = .ok (.invokevirtual 287, 3) := dk_182 1 31 (dk_at dksX7_isInVolume_0 19 rfl rfl)
theorem dX7_isInVolume_22 : decode cX7_isInVolume 22 = .ok (.iconst (-1), 1) := dk_2 (dk_at dksX7_isInVolume_0 22 rfl rfl)
theorem dX7_isInVolume_23 : decode cX7_isInVolume 23 = .ok (.if_icmp .eq 7, 3) := dk_159 0 7 (dk_at dksX7_isInVolume_1 0 rfl rfl)
theorem dX7_isInVolume_26 : decode cX7_isInVolume 26 = .ok (.iconst 1, 1) := dk_4 (dk_at dksX7_isInVolume_1 3 rfl rfl)
theorem dX7_isInVolume_27 : decode cX7_isInVolume 27 = .ok (.goto 4, 3) := dk_167 0 4 (dk_at dksX7_isInVolume_1 4 rfl rfl)
theorem dX7_isInVolume_30 : decode cX7_isInVolume 30 = .ok (.iconst 0, 1) := dk_3 (dk_at dksX7_isInVolume_1 7 rfl rfl)
theorem dX7_isInVolume_31 : decode cX7_isInVolume 31 = .ok (.ireturn, 1) := dk_172 (dk_at dksX7_isInVolume_1 8 rfl rfl)
abbrev cX7_write : ByteArray := prog_17_method_44_code
def yX7_write : MethodName := ⟨RX7, "write", "(III)I"⟩
def dkwX7_write_6 : List UInt8 := [21, 4, 21, 7, 182, 1, 50, 153, 0, 8, 21, 5, 167, 0, 8, 42, 6, 182, 0, 228, 172]
abbrev dktX7_write_6 : List UInt8 := dkwX7_write_6 ++ []
def dkwX7_write_5 : List UInt8 := [96, 29, 79, 21, 5, 172, 42, 21, 4, 182, 1, 47, 54, 7, 42, 21, 4, 28, 4, 29, 182, 1, 40, 42]
abbrev dktX7_write_5 : List UInt8 := dkwX7_write_5 ++ dktX7_write_6
def dkwX7_write_4 : List UInt8 := [182, 1, 31, 54, 6, 21, 6, 2, 159, 0, 22, 42, 180, 0, 90, 16, 10, 21, 6, 104, 28, 16, 10, 112]
abbrev dktX7_write_4 : List UInt8 := dkwX7_write_4 ++ dktX7_write_5
def dkwX7_write_3 : List UInt8 := [21, 4, 28, 182, 1, 44, 154, 0, 9, 42, 6, 182, 0, 228, 172, 42, 21, 4, 28, 16, 10, 108]
abbrev dktX7_write_3 : List UInt8 := dkwX7_write_3 ++ dktX7_write_4
def dkwX7_write_2 : List UInt8 := [180, 0, 189, 158, 0, 5, 3, 172, 42, 21, 4, 28, 182, 1, 37, 54, 5, 21, 5, 5, 159, 0, 13, 42]
abbrev dktX7_write_2 : List UInt8 := dkwX7_write_2 ++ dktX7_write_3
def dkwX7_write_1 : List UInt8 := [153, 0, 14, 29, 3, 17, 3, 231, 184, 0, 192, 154, 0, 7, 5, 167, 0, 4, 3, 181, 0, 189, 42]
abbrev dktX7_write_1 : List UInt8 := dkwX7_write_1 ++ dktX7_write_2
def dkwX7_write_0 : List UInt8 := [42, 27, 182, 1, 24, 54, 4, 42, 21, 4, 2, 160, 0, 7, 4, 167, 0, 26, 28, 184, 0, 221]
abbrev dktX7_write_0 : List UInt8 := dkwX7_write_0 ++ dktX7_write_1
theorem dksX7_write_0 : cX7_write.data.toList.drop 0 = dktX7_write_0 := by decide +kernel
theorem dksX7_write_1 : cX7_write.data.toList.drop 22 = dktX7_write_1 := dk_seg dksX7_write_0 22 rfl rfl
theorem dksX7_write_2 : cX7_write.data.toList.drop 45 = dktX7_write_2 := dk_seg dksX7_write_1 23 rfl rfl
theorem dksX7_write_3 : cX7_write.data.toList.drop 69 = dktX7_write_3 := dk_seg dksX7_write_2 24 rfl rfl
theorem dksX7_write_4 : cX7_write.data.toList.drop 91 = dktX7_write_4 := dk_seg dksX7_write_3 22 rfl rfl
theorem dksX7_write_5 : cX7_write.data.toList.drop 115 = dktX7_write_5 := dk_seg dksX7_write_4 24 rfl rfl
theorem dksX7_write_6 : cX7_write.data.toList.drop 139 = dktX7_write_6 := dk_seg dksX7_write_5 24 rfl rfl
theorem dX7_write_0 : decode cX7_write 0 = .ok (.aload_n 0, 1) := dk_42 (dk_at dksX7_write_0 0 rfl rfl)
theorem dX7_write_1 : decode cX7_write 1 = .ok (.iload_n 1, 1) := dk_27 (dk_at dksX7_write_0 1 rfl rfl)
theorem dX7_write_2 : decode cX7_write 2 = .ok (.invokevirtual 280, 3) := dk_182 1 24 (dk_at dksX7_write_0 2 rfl rfl)
theorem dX7_write_5 : decode cX7_write 5 = .ok (.istore 4, 2) := dk_54 4 (dk_at dksX7_write_0 5 rfl rfl)
theorem dX7_write_7 : decode cX7_write 7 = .ok (.aload_n 0, 1) := dk_42 (dk_at dksX7_write_0 7 rfl rfl)
theorem dX7_write_8 : decode cX7_write 8 = .ok (.iload 4, 2) := dk_21 4 (dk_at dksX7_write_0 8 rfl rfl)
theorem dX7_write_10 : decode cX7_write 10 = .ok (.iconst (-1), 1) := dk_2 (dk_at dksX7_write_0 10 rfl rfl)
theorem dX7_write_11 : decode cX7_write 11 = .ok (.if_icmp .ne 7, 3) := dk_160 0 7 (dk_at dksX7_write_0 11 rfl rfl)
theorem dX7_write_14 : decode cX7_write 14 = .ok (.iconst 1, 1) := dk_4 (dk_at dksX7_write_0 14 rfl rfl)
theorem dX7_write_15 : decode cX7_write 15 = .ok (.goto 26, 3) := dk_167 0 26 (dk_at dksX7_write_0 15 rfl rfl)
theorem dX7_write_18 : decode cX7_write 18 = .ok (.iload_n 2, 1) := dk_28 (dk_at dksX7_write_0 18 rfl rfl)
theorem dX7_write_19 : decode cX7_write 19 = .ok (.invokestatic 221, 3) := dk_184 0 221 (dk_at dksX7_write_0 19 rfl rfl)
theorem dX7_write_22 : decode cX7_write 22 = .ok (.ifCond .eq 14, 3) := dk_153 0 14 (dk_at dksX7_write_1 0 rfl rfl)
theorem dX7_write_25 : decode cX7_write 25 = .ok (.iload_n 3, 1) := dk_29 (dk_at dksX7_write_1 3 rfl rfl)
theorem dX7_write_26 : decode cX7_write 26 = .ok (.iconst 0, 1) := dk_3 (dk_at dksX7_write_1 4 rfl rfl)
theorem dX7_write_27 : decode cX7_write 27 = .ok (.sipush 999, 3) := dk_17 3 231 (dk_at dksX7_write_1 5 rfl rfl)
theorem dX7_write_30 : decode cX7_write 30 = .ok (.invokestatic 192, 3) := dk_184 0 192 (dk_at dksX7_write_1 8 rfl rfl)
theorem dX7_write_33 : decode cX7_write 33 = .ok (.ifCond .ne 7, 3) := dk_154 0 7 (dk_at dksX7_write_1 11 rfl rfl)
theorem dX7_write_36 : decode cX7_write 36 = .ok (.iconst 2, 1) := dk_5 (dk_at dksX7_write_1 14 rfl rfl)
theorem dX7_write_37 : decode cX7_write 37 = .ok (.goto 4, 3) := dk_167 0 4 (dk_at dksX7_write_1 15 rfl rfl)
theorem dX7_write_40 : decode cX7_write 40 = .ok (.iconst 0, 1) := dk_3 (dk_at dksX7_write_1 18 rfl rfl)
theorem dX7_write_41 : decode cX7_write 41 = .ok (.putfield 189, 3) := dk_181 0 189 (dk_at dksX7_write_1 19 rfl rfl)
theorem dX7_write_44 : decode cX7_write 44 = .ok (.aload_n 0, 1) := dk_42 (dk_at dksX7_write_1 22 rfl rfl)
theorem dX7_write_45 : decode cX7_write 45 = .ok (.getfield 189, 3) := dk_180 0 189 (dk_at dksX7_write_2 0 rfl rfl)
theorem dX7_write_48 : decode cX7_write 48 = .ok (.ifCond .le 5, 3) := dk_158 0 5 (dk_at dksX7_write_2 3 rfl rfl)
theorem dX7_write_51 : decode cX7_write 51 = .ok (.iconst 0, 1) := dk_3 (dk_at dksX7_write_2 6 rfl rfl)
theorem dX7_write_52 : decode cX7_write 52 = .ok (.ireturn, 1) := dk_172 (dk_at dksX7_write_2 7 rfl rfl)
theorem dX7_write_53 : decode cX7_write 53 = .ok (.aload_n 0, 1) := dk_42 (dk_at dksX7_write_2 8 rfl rfl)
theorem dX7_write_54 : decode cX7_write 54 = .ok (.iload 4, 2) := dk_21 4 (dk_at dksX7_write_2 9 rfl rfl)
theorem dX7_write_56 : decode cX7_write 56 = .ok (.iload_n 2, 1) := dk_28 (dk_at dksX7_write_2 11 rfl rfl)
theorem dX7_write_57 : decode cX7_write 57 = .ok (.invokevirtual 293, 3) := dk_182 1 37 (dk_at dksX7_write_2 12 rfl rfl)
theorem dX7_write_60 : decode cX7_write 60 = .ok (.istore 5, 2) := dk_54 5 (dk_at dksX7_write_2 15 rfl rfl)
theorem dX7_write_62 : decode cX7_write 62 = .ok (.iload 5, 2) := dk_21 5 (dk_at dksX7_write_2 17 rfl rfl)
theorem dX7_write_64 : decode cX7_write 64 = .ok (.iconst 2, 1) := dk_5 (dk_at dksX7_write_2 19 rfl rfl)
theorem dX7_write_65 : decode cX7_write 65 = .ok (.if_icmp .eq 13, 3) := dk_159 0 13 (dk_at dksX7_write_2 20 rfl rfl)
theorem dX7_write_68 : decode cX7_write 68 = .ok (.aload_n 0, 1) := dk_42 (dk_at dksX7_write_2 23 rfl rfl)
theorem dX7_write_69 : decode cX7_write 69 = .ok (.iload 4, 2) := dk_21 4 (dk_at dksX7_write_3 0 rfl rfl)
theorem dX7_write_71 : decode cX7_write 71 = .ok (.iload_n 2, 1) := dk_28 (dk_at dksX7_write_3 2 rfl rfl)
theorem dX7_write_72 : decode cX7_write 72 = .ok (.invokevirtual 300, 3) := dk_182 1 44 (dk_at dksX7_write_3 3 rfl rfl)
theorem dX7_write_75 : decode cX7_write 75 = .ok (.ifCond .ne 9, 3) := dk_154 0 9 (dk_at dksX7_write_3 6 rfl rfl)
theorem dX7_write_78 : decode cX7_write 78 = .ok (.aload_n 0, 1) := dk_42 (dk_at dksX7_write_3 9 rfl rfl)
theorem dX7_write_79 : decode cX7_write 79 = .ok (.iconst 3, 1) := dk_6 (dk_at dksX7_write_3 10 rfl rfl)
theorem dX7_write_80 : decode cX7_write 80 = .ok (.invokevirtual 228, 3) := dk_182 0 228 (dk_at dksX7_write_3 11 rfl rfl)
theorem dX7_write_83 : decode cX7_write 83 = .ok (.ireturn, 1) := dk_172 (dk_at dksX7_write_3 14 rfl rfl)
theorem dX7_write_84 : decode cX7_write 84 = .ok (.aload_n 0, 1) := dk_42 (dk_at dksX7_write_3 15 rfl rfl)
theorem dX7_write_85 : decode cX7_write 85 = .ok (.iload 4, 2) := dk_21 4 (dk_at dksX7_write_3 16 rfl rfl)
theorem dX7_write_87 : decode cX7_write 87 = .ok (.iload_n 2, 1) := dk_28 (dk_at dksX7_write_3 18 rfl rfl)
theorem dX7_write_88 : decode cX7_write 88 = .ok (.bipush 10, 2) := dk_16 10 (dk_at dksX7_write_3 19 rfl rfl)
theorem dX7_write_90 : decode cX7_write 90 = .ok (.idiv, 1) := dk_108 (dk_at dksX7_write_3 21 rfl rfl)
theorem dX7_write_91 : decode cX7_write 91 = .ok (.invokevirtual 287, 3) := dk_182 1 31 (dk_at dksX7_write_4 0 rfl rfl)
theorem dX7_write_94 : decode cX7_write 94 = .ok (.istore 6, 2) := dk_54 6 (dk_at dksX7_write_4 3 rfl rfl)
theorem dX7_write_96 : decode cX7_write 96 = .ok (.iload 6, 2) := dk_21 6 (dk_at dksX7_write_4 5 rfl rfl)
theorem dX7_write_98 : decode cX7_write 98 = .ok (.iconst (-1), 1) := dk_2 (dk_at dksX7_write_4 7 rfl rfl)
theorem dX7_write_99 : decode cX7_write 99 = .ok (.if_icmp .eq 22, 3) := dk_159 0 22 (dk_at dksX7_write_4 8 rfl rfl)
theorem dX7_write_102 : decode cX7_write 102 = .ok (.aload_n 0, 1) := dk_42 (dk_at dksX7_write_4 11 rfl rfl)
theorem dX7_write_103 : decode cX7_write 103 = .ok (.getfield 90, 3) := dk_180 0 90 (dk_at dksX7_write_4 12 rfl rfl)
theorem dX7_write_106 : decode cX7_write 106 = .ok (.bipush 10, 2) := dk_16 10 (dk_at dksX7_write_4 15 rfl rfl)
theorem dX7_write_108 : decode cX7_write 108 = .ok (.iload 6, 2) := dk_21 6 (dk_at dksX7_write_4 17 rfl rfl)
theorem dX7_write_110 : decode cX7_write 110 = .ok (.imul, 1) := dk_104 (dk_at dksX7_write_4 19 rfl rfl)
theorem dX7_write_111 : decode cX7_write 111 = .ok (.iload_n 2, 1) := dk_28 (dk_at dksX7_write_4 20 rfl rfl)
theorem dX7_write_112 : decode cX7_write 112 = .ok (.bipush 10, 2) := dk_16 10 (dk_at dksX7_write_4 21 rfl rfl)
theorem dX7_write_114 : decode cX7_write 114 = .ok (.irem, 1) := dk_112 (dk_at dksX7_write_4 23 rfl rfl)
theorem dX7_write_115 : decode cX7_write 115 = .ok (.iadd, 1) := dk_96 (dk_at dksX7_write_5 0 rfl rfl)
theorem dX7_write_116 : decode cX7_write 116 = .ok (.iload_n 3, 1) := dk_29 (dk_at dksX7_write_5 1 rfl rfl)
theorem dX7_write_117 : decode cX7_write 117 = .ok (.iastore, 1) := dk_79 (dk_at dksX7_write_5 2 rfl rfl)
theorem dX7_write_118 : decode cX7_write 118 = .ok (.iload 5, 2) := dk_21 5 (dk_at dksX7_write_5 3 rfl rfl)
theorem dX7_write_120 : decode cX7_write 120 = .ok (.ireturn, 1) := dk_172 (dk_at dksX7_write_5 5 rfl rfl)
theorem dX7_write_121 : decode cX7_write 121 = .ok (.aload_n 0, 1) := dk_42 (dk_at dksX7_write_5 6 rfl rfl)
theorem dX7_write_122 : decode cX7_write 122 = .ok (.iload 4, 2) := dk_21 4 (dk_at dksX7_write_5 7 rfl rfl)
theorem dX7_write_124 : decode cX7_write 124 = .ok (.invokevirtual 303, 3) := dk_182 1 47 (dk_at dksX7_write_5 9 rfl rfl)
theorem dX7_write_127 : decode cX7_write 127 = .ok (.istore 7, 2) := dk_54 7 (dk_at dksX7_write_5 12 rfl rfl)
theorem dX7_write_129 : decode cX7_write 129 = .ok (.aload_n 0, 1) := dk_42 (dk_at dksX7_write_5 14 rfl rfl)
theorem dX7_write_130 : decode cX7_write 130 = .ok (.iload 4, 2) := dk_21 4 (dk_at dksX7_write_5 15 rfl rfl)
theorem dX7_write_132 : decode cX7_write 132 = .ok (.iload_n 2, 1) := dk_28 (dk_at dksX7_write_5 17 rfl rfl)
theorem dX7_write_133 : decode cX7_write 133 = .ok (.iconst 1, 1) := dk_4 (dk_at dksX7_write_5 18 rfl rfl)
theorem dX7_write_134 : decode cX7_write 134 = .ok (.iload_n 3, 1) := dk_29 (dk_at dksX7_write_5 19 rfl rfl)
theorem dX7_write_135 : decode cX7_write 135 = .ok (.invokevirtual 296, 3) := dk_182 1 40 (dk_at dksX7_write_5 20 rfl rfl)
theorem dX7_write_138 : decode cX7_write 138 = .ok (.aload_n 0, 1) := dk_42 (dk_at dksX7_write_5 23 rfl rfl)
theorem dX7_write_139 : decode cX7_write 139 = .ok (.iload 4, 2) := dk_21 4 (dk_at dksX7_write_6 0 rfl rfl)
theorem dX7_write_141 : decode cX7_write 141 = .ok (.iload 7, 2) := dk_21 7 (dk_at dksX7_write_6 2 rfl rfl)
theorem dX7_write_143 : decode cX7_write 143 = .ok (.invokevirtual 306, 3) := dk_182 1 50 (dk_at dksX7_write_6 4 rfl rfl)
theorem dX7_write_146 : decode cX7_write 146 = .ok (.ifCond .eq 8, 3) := dk_153 0 8 (dk_at dksX7_write_6 7 rfl rfl)
theorem dX7_write_149 : decode cX7_write 149 = .ok (.iload 5, 2) := dk_21 5 (dk_at dksX7_write_6 10 rfl rfl)
theorem dX7_write_151 : decode cX7_write 151 = .ok (.goto 8, 3) := dk_167 0 8 (dk_at dksX7_write_6 12 rfl rfl)
theorem dX7_write_154 : decode cX7_write 154 = .ok (.aload_n 0, 1) := dk_42 (dk_at dksX7_write_6 15 rfl rfl)
theorem dX7_write_155 : decode cX7_write 155 = .ok (.iconst 3, 1) := dk_6 (dk_at dksX7_write_6 16 rfl rfl)
theorem dX7_write_156 : decode cX7_write 156 = .ok (.invokevirtual 228, 3) := dk_182 0 228 (dk_at dksX7_write_6 17 rfl rfl)
theorem dX7_write_159 : decode cX7_write 159 = .ok (.ireturn, 1) := dk_172 (dk_at dksX7_write_6 20 rfl rfl)
abbrev cX7_hasParent : ByteArray := prog_17_method_39_code
def yX7_hasParent : MethodName := ⟨RX7, "hasParent", "(II)Z"⟩
def dkwX7_hasParent_1 : List UInt8 := [172]
abbrev dktX7_hasParent_1 : List UInt8 := dkwX7_hasParent_1 ++ []
def dkwX7_hasParent_0 : List UInt8 := [28, 16, 10, 161, 0, 16, 42, 27, 28, 16, 10, 108, 182, 1, 37, 5, 160, 0, 7, 4, 167, 0, 4, 3]
abbrev dktX7_hasParent_0 : List UInt8 := dkwX7_hasParent_0 ++ dktX7_hasParent_1
theorem dksX7_hasParent_0 : cX7_hasParent.data.toList.drop 0 = dktX7_hasParent_0 := by decide +kernel
theorem dksX7_hasParent_1 : cX7_hasParent.data.toList.drop 24 = dktX7_hasParent_1 := dk_seg dksX7_hasParent_0 24 rfl rfl
theorem dX7_hasParent_0 : decode cX7_hasParent 0 = .ok (.iload_n 2, 1) := dk_28 (dk_at dksX7_hasParent_0 0 rfl rfl)
theorem dX7_hasParent_1 : decode cX7_hasParent 1 = .ok (.bipush 10, 2) := dk_16 10 (dk_at dksX7_hasParent_0 1 rfl rfl)
theorem dX7_hasParent_3 : decode cX7_hasParent 3 = .ok (.if_icmp .lt 16, 3) := dk_161 0 16 (dk_at dksX7_hasParent_0 3 rfl rfl)
theorem dX7_hasParent_6 : decode cX7_hasParent 6 = .ok (.aload_n 0, 1) := dk_42 (dk_at dksX7_hasParent_0 6 rfl rfl)
theorem dX7_hasParent_7 : decode cX7_hasParent 7 = .ok (.iload_n 1, 1) := dk_27 (dk_at dksX7_hasParent_0 7 rfl rfl)
theorem dX7_hasParent_8 : decode cX7_hasParent 8 = .ok (.iload_n 2, 1) := dk_28 (dk_at dksX7_hasParent_0 8 rfl rfl)
theorem dX7_hasParent_9 : decode cX7_hasParent 9 = .ok (.bipush 10, 2) := dk_16 10 (dk_at dksX7_hasParent_0 9 rfl rfl)
theorem dX7_hasParent_11 : decode cX7_hasParent 11 = .ok (.idiv, 1) := dk_108 (dk_at dksX7_hasParent_0 11 rfl rfl)
theorem dX7_hasParent_12 : decode cX7_hasParent 12 = .ok (.invokevirtual 293, 3) := dk_182 1 37 (dk_at dksX7_hasParent_0 12 rfl rfl)
theorem dX7_hasParent_15 : decode cX7_hasParent 15 = .ok (.iconst 2, 1) := dk_5 (dk_at dksX7_hasParent_0 15 rfl rfl)
theorem dX7_hasParent_16 : decode cX7_hasParent 16 = .ok (.if_icmp .ne 7, 3) := dk_160 0 7 (dk_at dksX7_hasParent_0 16 rfl rfl)
theorem dX7_hasParent_19 : decode cX7_hasParent 19 = .ok (.iconst 1, 1) := dk_4 (dk_at dksX7_hasParent_0 19 rfl rfl)
theorem dX7_hasParent_20 : decode cX7_hasParent 20 = .ok (.goto 4, 3) := dk_167 0 4 (dk_at dksX7_hasParent_0 20 rfl rfl)
theorem dX7_hasParent_23 : decode cX7_hasParent 23 = .ok (.iconst 0, 1) := dk_3 (dk_at dksX7_hasParent_0 23 rfl rfl)
theorem dX7_hasParent_24 : decode cX7_hasParent 24 = .ok (.ireturn, 1) := dk_172 (dk_at dksX7_hasParent_1 0 rfl rfl)
abbrev cX7_saves : ByteArray := prog_17_method_42_code
def yX7_saves : MethodName := ⟨RX7, "saves", "(I)I"⟩
def dkwX7_saves_3 : List UInt8 := [180, 0, 66, 27, 46, 172]
abbrev dktX7_saves_3 : List UInt8 := dkwX7_saves_3 ++ []
def dkwX7_saves_2 : List UInt8 := [180, 0, 84, 28, 42, 180, 0, 75, 16, 24, 27, 104, 28, 96, 46, 79, 132, 2, 1, 167, 255, 192, 42]
abbrev dktX7_saves_2 : List UInt8 := dkwX7_saves_2 ++ dktX7_saves_3
def dkwX7_saves_1 : List UInt8 := [104, 28, 96, 46, 79, 42, 180, 0, 81, 28, 42, 180, 0, 72, 16, 24, 27, 104, 28, 96, 46, 79, 42]
abbrev dktX7_saves_1 : List UInt8 := dkwX7_saves_1 ++ dktX7_saves_2
def dkwX7_saves_0 : List UInt8 := [3, 61, 28, 42, 180, 0, 66, 27, 46, 162, 0, 60, 42, 180, 0, 78, 28, 42, 180, 0, 69, 16, 24, 27]
abbrev dktX7_saves_0 : List UInt8 := dkwX7_saves_0 ++ dktX7_saves_1
theorem dksX7_saves_0 : cX7_saves.data.toList.drop 0 = dktX7_saves_0 := by decide +kernel
theorem dksX7_saves_1 : cX7_saves.data.toList.drop 24 = dktX7_saves_1 := dk_seg dksX7_saves_0 24 rfl rfl
theorem dksX7_saves_2 : cX7_saves.data.toList.drop 47 = dktX7_saves_2 := dk_seg dksX7_saves_1 23 rfl rfl
theorem dksX7_saves_3 : cX7_saves.data.toList.drop 70 = dktX7_saves_3 := dk_seg dksX7_saves_2 23 rfl rfl
theorem dX7_saves_0 : decode cX7_saves 0 = .ok (.iconst 0, 1) := dk_3 (dk_at dksX7_saves_0 0 rfl rfl)
theorem dX7_saves_1 : decode cX7_saves 1 = .ok (.istore_n 2, 1) := dk_61 (dk_at dksX7_saves_0 1 rfl rfl)
theorem dX7_saves_2 : decode cX7_saves 2 = .ok (.iload_n 2, 1) := dk_28 (dk_at dksX7_saves_0 2 rfl rfl)
theorem dX7_saves_3 : decode cX7_saves 3 = .ok (.aload_n 0, 1) := dk_42 (dk_at dksX7_saves_0 3 rfl rfl)
theorem dX7_saves_4 : decode cX7_saves 4 = .ok (.getfield 66, 3) := dk_180 0 66 (dk_at dksX7_saves_0 4 rfl rfl)
theorem dX7_saves_7 : decode cX7_saves 7 = .ok (.iload_n 1, 1) := dk_27 (dk_at dksX7_saves_0 7 rfl rfl)
theorem dX7_saves_8 : decode cX7_saves 8 = .ok (.iaload, 1) := dk_46 (dk_at dksX7_saves_0 8 rfl rfl)
theorem dX7_saves_9 : decode cX7_saves 9 = .ok (.if_icmp .ge 60, 3) := dk_162 0 60 (dk_at dksX7_saves_0 9 rfl rfl)
theorem dX7_saves_12 : decode cX7_saves 12 = .ok (.aload_n 0, 1) := dk_42 (dk_at dksX7_saves_0 12 rfl rfl)
theorem dX7_saves_13 : decode cX7_saves 13 = .ok (.getfield 78, 3) := dk_180 0 78 (dk_at dksX7_saves_0 13 rfl rfl)
theorem dX7_saves_16 : decode cX7_saves 16 = .ok (.iload_n 2, 1) := dk_28 (dk_at dksX7_saves_0 16 rfl rfl)
theorem dX7_saves_17 : decode cX7_saves 17 = .ok (.aload_n 0, 1) := dk_42 (dk_at dksX7_saves_0 17 rfl rfl)
theorem dX7_saves_18 : decode cX7_saves 18 = .ok (.getfield 69, 3) := dk_180 0 69 (dk_at dksX7_saves_0 18 rfl rfl)
theorem dX7_saves_21 : decode cX7_saves 21 = .ok (.bipush 24, 2) := dk_16 24 (dk_at dksX7_saves_0 21 rfl rfl)
theorem dX7_saves_23 : decode cX7_saves 23 = .ok (.iload_n 1, 1) := dk_27 (dk_at dksX7_saves_0 23 rfl rfl)
theorem dX7_saves_24 : decode cX7_saves 24 = .ok (.imul, 1) := dk_104 (dk_at dksX7_saves_1 0 rfl rfl)
theorem dX7_saves_25 : decode cX7_saves 25 = .ok (.iload_n 2, 1) := dk_28 (dk_at dksX7_saves_1 1 rfl rfl)
theorem dX7_saves_26 : decode cX7_saves 26 = .ok (.iadd, 1) := dk_96 (dk_at dksX7_saves_1 2 rfl rfl)
theorem dX7_saves_27 : decode cX7_saves 27 = .ok (.iaload, 1) := dk_46 (dk_at dksX7_saves_1 3 rfl rfl)
theorem dX7_saves_28 : decode cX7_saves 28 = .ok (.iastore, 1) := dk_79 (dk_at dksX7_saves_1 4 rfl rfl)
theorem dX7_saves_29 : decode cX7_saves 29 = .ok (.aload_n 0, 1) := dk_42 (dk_at dksX7_saves_1 5 rfl rfl)
theorem dX7_saves_30 : decode cX7_saves 30 = .ok (.getfield 81, 3) := dk_180 0 81 (dk_at dksX7_saves_1 6 rfl rfl)
theorem dX7_saves_33 : decode cX7_saves 33 = .ok (.iload_n 2, 1) := dk_28 (dk_at dksX7_saves_1 9 rfl rfl)
theorem dX7_saves_34 : decode cX7_saves 34 = .ok (.aload_n 0, 1) := dk_42 (dk_at dksX7_saves_1 10 rfl rfl)
theorem dX7_saves_35 : decode cX7_saves 35 = .ok (.getfield 72, 3) := dk_180 0 72 (dk_at dksX7_saves_1 11 rfl rfl)
theorem dX7_saves_38 : decode cX7_saves 38 = .ok (.bipush 24, 2) := dk_16 24 (dk_at dksX7_saves_1 14 rfl rfl)
theorem dX7_saves_40 : decode cX7_saves 40 = .ok (.iload_n 1, 1) := dk_27 (dk_at dksX7_saves_1 16 rfl rfl)
theorem dX7_saves_41 : decode cX7_saves 41 = .ok (.imul, 1) := dk_104 (dk_at dksX7_saves_1 17 rfl rfl)
theorem dX7_saves_42 : decode cX7_saves 42 = .ok (.iload_n 2, 1) := dk_28 (dk_at dksX7_saves_1 18 rfl rfl)
theorem dX7_saves_43 : decode cX7_saves 43 = .ok (.iadd, 1) := dk_96 (dk_at dksX7_saves_1 19 rfl rfl)
theorem dX7_saves_44 : decode cX7_saves 44 = .ok (.iaload, 1) := dk_46 (dk_at dksX7_saves_1 20 rfl rfl)
theorem dX7_saves_45 : decode cX7_saves 45 = .ok (.iastore, 1) := dk_79 (dk_at dksX7_saves_1 21 rfl rfl)
theorem dX7_saves_46 : decode cX7_saves 46 = .ok (.aload_n 0, 1) := dk_42 (dk_at dksX7_saves_1 22 rfl rfl)
theorem dX7_saves_47 : decode cX7_saves 47 = .ok (.getfield 84, 3) := dk_180 0 84 (dk_at dksX7_saves_2 0 rfl rfl)
theorem dX7_saves_50 : decode cX7_saves 50 = .ok (.iload_n 2, 1) := dk_28 (dk_at dksX7_saves_2 3 rfl rfl)
theorem dX7_saves_51 : decode cX7_saves 51 = .ok (.aload_n 0, 1) := dk_42 (dk_at dksX7_saves_2 4 rfl rfl)
theorem dX7_saves_52 : decode cX7_saves 52 = .ok (.getfield 75, 3) := dk_180 0 75 (dk_at dksX7_saves_2 5 rfl rfl)
theorem dX7_saves_55 : decode cX7_saves 55 = .ok (.bipush 24, 2) := dk_16 24 (dk_at dksX7_saves_2 8 rfl rfl)
theorem dX7_saves_57 : decode cX7_saves 57 = .ok (.iload_n 1, 1) := dk_27 (dk_at dksX7_saves_2 10 rfl rfl)
theorem dX7_saves_58 : decode cX7_saves 58 = .ok (.imul, 1) := dk_104 (dk_at dksX7_saves_2 11 rfl rfl)
theorem dX7_saves_59 : decode cX7_saves 59 = .ok (.iload_n 2, 1) := dk_28 (dk_at dksX7_saves_2 12 rfl rfl)
theorem dX7_saves_60 : decode cX7_saves 60 = .ok (.iadd, 1) := dk_96 (dk_at dksX7_saves_2 13 rfl rfl)
theorem dX7_saves_61 : decode cX7_saves 61 = .ok (.iaload, 1) := dk_46 (dk_at dksX7_saves_2 14 rfl rfl)
theorem dX7_saves_62 : decode cX7_saves 62 = .ok (.iastore, 1) := dk_79 (dk_at dksX7_saves_2 15 rfl rfl)
theorem dX7_saves_63 : decode cX7_saves 63 = .ok (.iinc 2 1, 3) := dk_132 2 1 (dk_at dksX7_saves_2 16 rfl rfl)
theorem dX7_saves_66 : decode cX7_saves 66 = .ok (.goto (-64), 3) := dk_167 255 192 (dk_at dksX7_saves_2 19 rfl rfl)
theorem dX7_saves_69 : decode cX7_saves 69 = .ok (.aload_n 0, 1) := dk_42 (dk_at dksX7_saves_2 22 rfl rfl)
theorem dX7_saves_70 : decode cX7_saves 70 = .ok (.getfield 66, 3) := dk_180 0 66 (dk_at dksX7_saves_3 0 rfl rfl)
theorem dX7_saves_73 : decode cX7_saves 73 = .ok (.iload_n 1, 1) := dk_27 (dk_at dksX7_saves_3 3 rfl rfl)
theorem dX7_saves_74 : decode cX7_saves 74 = .ok (.iaload, 1) := dk_46 (dk_at dksX7_saves_3 4 rfl rfl)
theorem dX7_saves_75 : decode cX7_saves 75 = .ok (.ireturn, 1) := dk_172 (dk_at dksX7_saves_3 5 rfl rfl)
abbrev cX7_puts : ByteArray := prog_17_method_40_code
def yX7_puts : MethodName := ⟨RX7, "puts", "(IIII)V"⟩
def dkwX7_puts_2 : List UInt8 := [180, 0, 72, 21, 5, 29, 79, 42, 180, 0, 75, 21, 5, 21, 4, 79, 177]
abbrev dktX7_puts_2 : List UInt8 := dkwX7_puts_2 ++ []
def dkwX7_puts_1 : List UInt8 := [27, 46, 96, 54, 5, 42, 180, 0, 66, 27, 92, 46, 4, 96, 79, 42, 180, 0, 69, 21, 5, 28, 79, 42]
abbrev dktX7_puts_1 : List UInt8 := dkwX7_puts_1 ++ dktX7_puts_2
def dkwX7_puts_0 : List UInt8 := [42, 2, 27, 100, 28, 182, 0, 207, 54, 5, 21, 5, 2, 160, 0, 26, 16, 24, 27, 104, 42, 180, 0, 66]
abbrev dktX7_puts_0 : List UInt8 := dkwX7_puts_0 ++ dktX7_puts_1
theorem dksX7_puts_0 : cX7_puts.data.toList.drop 0 = dktX7_puts_0 := by decide +kernel
theorem dksX7_puts_1 : cX7_puts.data.toList.drop 24 = dktX7_puts_1 := dk_seg dksX7_puts_0 24 rfl rfl
theorem dksX7_puts_2 : cX7_puts.data.toList.drop 48 = dktX7_puts_2 := dk_seg dksX7_puts_1 24 rfl rfl
theorem dX7_puts_0 : decode cX7_puts 0 = .ok (.aload_n 0, 1) := dk_42 (dk_at dksX7_puts_0 0 rfl rfl)
theorem dX7_puts_1 : decode cX7_puts 1 = .ok (.iconst (-1), 1) := dk_2 (dk_at dksX7_puts_0 1 rfl rfl)
theorem dX7_puts_2 : decode cX7_puts 2 = .ok (.iload_n 1, 1) := dk_27 (dk_at dksX7_puts_0 2 rfl rfl)
theorem dX7_puts_3 : decode cX7_puts 3 = .ok (.isub, 1) := dk_100 (dk_at dksX7_puts_0 3 rfl rfl)
theorem dX7_puts_4 : decode cX7_puts 4 = .ok (.iload_n 2, 1) := dk_28 (dk_at dksX7_puts_0 4 rfl rfl)
theorem dX7_puts_5 : decode cX7_puts 5 = .ok (.invokevirtual 207, 3) := dk_182 0 207 (dk_at dksX7_puts_0 5 rfl rfl)
theorem dX7_puts_8 : decode cX7_puts 8 = .ok (.istore 5, 2) := dk_54 5 (dk_at dksX7_puts_0 8 rfl rfl)
theorem dX7_puts_10 : decode cX7_puts 10 = .ok (.iload 5, 2) := dk_21 5 (dk_at dksX7_puts_0 10 rfl rfl)
theorem dX7_puts_12 : decode cX7_puts 12 = .ok (.iconst (-1), 1) := dk_2 (dk_at dksX7_puts_0 12 rfl rfl)
theorem dX7_puts_13 : decode cX7_puts 13 = .ok (.if_icmp .ne 26, 3) := dk_160 0 26 (dk_at dksX7_puts_0 13 rfl rfl)
theorem dX7_puts_16 : decode cX7_puts 16 = .ok (.bipush 24, 2) := dk_16 24 (dk_at dksX7_puts_0 16 rfl rfl)
theorem dX7_puts_18 : decode cX7_puts 18 = .ok (.iload_n 1, 1) := dk_27 (dk_at dksX7_puts_0 18 rfl rfl)
theorem dX7_puts_19 : decode cX7_puts 19 = .ok (.imul, 1) := dk_104 (dk_at dksX7_puts_0 19 rfl rfl)
theorem dX7_puts_20 : decode cX7_puts 20 = .ok (.aload_n 0, 1) := dk_42 (dk_at dksX7_puts_0 20 rfl rfl)
theorem dX7_puts_21 : decode cX7_puts 21 = .ok (.getfield 66, 3) := dk_180 0 66 (dk_at dksX7_puts_0 21 rfl rfl)
theorem dX7_puts_24 : decode cX7_puts 24 = .ok (.iload_n 1, 1) := dk_27 (dk_at dksX7_puts_1 0 rfl rfl)
theorem dX7_puts_25 : decode cX7_puts 25 = .ok (.iaload, 1) := dk_46 (dk_at dksX7_puts_1 1 rfl rfl)
theorem dX7_puts_26 : decode cX7_puts 26 = .ok (.iadd, 1) := dk_96 (dk_at dksX7_puts_1 2 rfl rfl)
theorem dX7_puts_27 : decode cX7_puts 27 = .ok (.istore 5, 2) := dk_54 5 (dk_at dksX7_puts_1 3 rfl rfl)
theorem dX7_puts_29 : decode cX7_puts 29 = .ok (.aload_n 0, 1) := dk_42 (dk_at dksX7_puts_1 5 rfl rfl)
theorem dX7_puts_30 : decode cX7_puts 30 = .ok (.getfield 66, 3) := dk_180 0 66 (dk_at dksX7_puts_1 6 rfl rfl)
theorem dX7_puts_33 : decode cX7_puts 33 = .ok (.iload_n 1, 1) := dk_27 (dk_at dksX7_puts_1 9 rfl rfl)
theorem dX7_puts_34 : decode cX7_puts 34 = .ok (.dup2, 1) := dk_92 (dk_at dksX7_puts_1 10 rfl rfl)
theorem dX7_puts_35 : decode cX7_puts 35 = .ok (.iaload, 1) := dk_46 (dk_at dksX7_puts_1 11 rfl rfl)
theorem dX7_puts_36 : decode cX7_puts 36 = .ok (.iconst 1, 1) := dk_4 (dk_at dksX7_puts_1 12 rfl rfl)
theorem dX7_puts_37 : decode cX7_puts 37 = .ok (.iadd, 1) := dk_96 (dk_at dksX7_puts_1 13 rfl rfl)
theorem dX7_puts_38 : decode cX7_puts 38 = .ok (.iastore, 1) := dk_79 (dk_at dksX7_puts_1 14 rfl rfl)
theorem dX7_puts_39 : decode cX7_puts 39 = .ok (.aload_n 0, 1) := dk_42 (dk_at dksX7_puts_1 15 rfl rfl)
theorem dX7_puts_40 : decode cX7_puts 40 = .ok (.getfield 69, 3) := dk_180 0 69 (dk_at dksX7_puts_1 16 rfl rfl)
theorem dX7_puts_43 : decode cX7_puts 43 = .ok (.iload 5, 2) := dk_21 5 (dk_at dksX7_puts_1 19 rfl rfl)
theorem dX7_puts_45 : decode cX7_puts 45 = .ok (.iload_n 2, 1) := dk_28 (dk_at dksX7_puts_1 21 rfl rfl)
theorem dX7_puts_46 : decode cX7_puts 46 = .ok (.iastore, 1) := dk_79 (dk_at dksX7_puts_1 22 rfl rfl)
theorem dX7_puts_47 : decode cX7_puts 47 = .ok (.aload_n 0, 1) := dk_42 (dk_at dksX7_puts_1 23 rfl rfl)
theorem dX7_puts_48 : decode cX7_puts 48 = .ok (.getfield 72, 3) := dk_180 0 72 (dk_at dksX7_puts_2 0 rfl rfl)
theorem dX7_puts_51 : decode cX7_puts 51 = .ok (.iload 5, 2) := dk_21 5 (dk_at dksX7_puts_2 3 rfl rfl)
theorem dX7_puts_53 : decode cX7_puts 53 = .ok (.iload_n 3, 1) := dk_29 (dk_at dksX7_puts_2 5 rfl rfl)
theorem dX7_puts_54 : decode cX7_puts 54 = .ok (.iastore, 1) := dk_79 (dk_at dksX7_puts_2 6 rfl rfl)
theorem dX7_puts_55 : decode cX7_puts 55 = .ok (.aload_n 0, 1) := dk_42 (dk_at dksX7_puts_2 7 rfl rfl)
theorem dX7_puts_56 : decode cX7_puts 56 = .ok (.getfield 75, 3) := dk_180 0 75 (dk_at dksX7_puts_2 8 rfl rfl)
theorem dX7_puts_59 : decode cX7_puts 59 = .ok (.iload 5, 2) := dk_21 5 (dk_at dksX7_puts_2 11 rfl rfl)
theorem dX7_puts_61 : decode cX7_puts 61 = .ok (.iload 4, 2) := dk_21 4 (dk_at dksX7_puts_2 13 rfl rfl)
theorem dX7_puts_63 : decode cX7_puts 63 = .ok (.iastore, 1) := dk_79 (dk_at dksX7_puts_2 15 rfl rfl)
theorem dX7_puts_64 : decode cX7_puts 64 = .ok (.return_, 1) := dk_177 (dk_at dksX7_puts_2 16 rfl rfl)
abbrev cX7_ends : ByteArray := prog_17_method_43_code
def yX7_ends : MethodName := ⟨RX7, "ends", "(II)Z"⟩
def dkwX7_ends_3 : List UInt8 := [180, 0, 84, 29, 46, 79, 132, 3, 1, 167, 255, 197, 3, 172]
abbrev dktX7_ends_3 : List UInt8 := dkwX7_ends_3 ++ []
def dkwX7_ends_2 : List UInt8 := [16, 24, 27, 104, 29, 96, 42, 180, 0, 81, 29, 46, 79, 42, 180, 0, 75, 16, 24, 27, 104, 29, 96, 42]
abbrev dktX7_ends_2 : List UInt8 := dkwX7_ends_2 ++ dktX7_ends_3
def dkwX7_ends_1 : List UInt8 := [162, 0, 60, 42, 180, 0, 69, 16, 24, 27, 104, 29, 96, 42, 180, 0, 78, 29, 46, 79, 42, 180, 0, 72]
abbrev dktX7_ends_1 : List UInt8 := dkwX7_ends_1 ++ dktX7_ends_2
def dkwX7_ends_0 : List UInt8 := [42, 180, 0, 66, 27, 46, 16, 20, 163, 0, 5, 4, 172, 42, 180, 0, 66, 27, 28, 79, 3, 62, 29, 28]
abbrev dktX7_ends_0 : List UInt8 := dkwX7_ends_0 ++ dktX7_ends_1
theorem dksX7_ends_0 : cX7_ends.data.toList.drop 0 = dktX7_ends_0 := by decide +kernel
theorem dksX7_ends_1 : cX7_ends.data.toList.drop 24 = dktX7_ends_1 := dk_seg dksX7_ends_0 24 rfl rfl
theorem dksX7_ends_2 : cX7_ends.data.toList.drop 48 = dktX7_ends_2 := dk_seg dksX7_ends_1 24 rfl rfl
theorem dksX7_ends_3 : cX7_ends.data.toList.drop 72 = dktX7_ends_3 := dk_seg dksX7_ends_2 24 rfl rfl
theorem dX7_ends_0 : decode cX7_ends 0 = .ok (.aload_n 0, 1) := dk_42 (dk_at dksX7_ends_0 0 rfl rfl)
theorem dX7_ends_1 : decode cX7_ends 1 = .ok (.getfield 66, 3) := dk_180 0 66 (dk_at dksX7_ends_0 1 rfl rfl)
theorem dX7_ends_4 : decode cX7_ends 4 = .ok (.iload_n 1, 1) := dk_27 (dk_at dksX7_ends_0 4 rfl rfl)
theorem dX7_ends_5 : decode cX7_ends 5 = .ok (.iaload, 1) := dk_46 (dk_at dksX7_ends_0 5 rfl rfl)
theorem dX7_ends_6 : decode cX7_ends 6 = .ok (.bipush 20, 2) := dk_16 20 (dk_at dksX7_ends_0 6 rfl rfl)
theorem dX7_ends_8 : decode cX7_ends 8 = .ok (.if_icmp .gt 5, 3) := dk_163 0 5 (dk_at dksX7_ends_0 8 rfl rfl)
theorem dX7_ends_11 : decode cX7_ends 11 = .ok (.iconst 1, 1) := dk_4 (dk_at dksX7_ends_0 11 rfl rfl)
theorem dX7_ends_12 : decode cX7_ends 12 = .ok (.ireturn, 1) := dk_172 (dk_at dksX7_ends_0 12 rfl rfl)
theorem dX7_ends_13 : decode cX7_ends 13 = .ok (.aload_n 0, 1) := dk_42 (dk_at dksX7_ends_0 13 rfl rfl)
theorem dX7_ends_14 : decode cX7_ends 14 = .ok (.getfield 66, 3) := dk_180 0 66 (dk_at dksX7_ends_0 14 rfl rfl)
theorem dX7_ends_17 : decode cX7_ends 17 = .ok (.iload_n 1, 1) := dk_27 (dk_at dksX7_ends_0 17 rfl rfl)
theorem dX7_ends_18 : decode cX7_ends 18 = .ok (.iload_n 2, 1) := dk_28 (dk_at dksX7_ends_0 18 rfl rfl)
theorem dX7_ends_19 : decode cX7_ends 19 = .ok (.iastore, 1) := dk_79 (dk_at dksX7_ends_0 19 rfl rfl)
theorem dX7_ends_20 : decode cX7_ends 20 = .ok (.iconst 0, 1) := dk_3 (dk_at dksX7_ends_0 20 rfl rfl)
theorem dX7_ends_21 : decode cX7_ends 21 = .ok (.istore_n 3, 1) := dk_62 (dk_at dksX7_ends_0 21 rfl rfl)
theorem dX7_ends_22 : decode cX7_ends 22 = .ok (.iload_n 3, 1) := dk_29 (dk_at dksX7_ends_0 22 rfl rfl)
theorem dX7_ends_23 : decode cX7_ends 23 = .ok (.iload_n 2, 1) := dk_28 (dk_at dksX7_ends_0 23 rfl rfl)
theorem dX7_ends_24 : decode cX7_ends 24 = .ok (.if_icmp .ge 60, 3) := dk_162 0 60 (dk_at dksX7_ends_1 0 rfl rfl)
theorem dX7_ends_27 : decode cX7_ends 27 = .ok (.aload_n 0, 1) := dk_42 (dk_at dksX7_ends_1 3 rfl rfl)
theorem dX7_ends_28 : decode cX7_ends 28 = .ok (.getfield 69, 3) := dk_180 0 69 (dk_at dksX7_ends_1 4 rfl rfl)
theorem dX7_ends_31 : decode cX7_ends 31 = .ok (.bipush 24, 2) := dk_16 24 (dk_at dksX7_ends_1 7 rfl rfl)
theorem dX7_ends_33 : decode cX7_ends 33 = .ok (.iload_n 1, 1) := dk_27 (dk_at dksX7_ends_1 9 rfl rfl)
theorem dX7_ends_34 : decode cX7_ends 34 = .ok (.imul, 1) := dk_104 (dk_at dksX7_ends_1 10 rfl rfl)
theorem dX7_ends_35 : decode cX7_ends 35 = .ok (.iload_n 3, 1) := dk_29 (dk_at dksX7_ends_1 11 rfl rfl)
theorem dX7_ends_36 : decode cX7_ends 36 = .ok (.iadd, 1) := dk_96 (dk_at dksX7_ends_1 12 rfl rfl)
theorem dX7_ends_37 : decode cX7_ends 37 = .ok (.aload_n 0, 1) := dk_42 (dk_at dksX7_ends_1 13 rfl rfl)
theorem dX7_ends_38 : decode cX7_ends 38 = .ok (.getfield 78, 3) := dk_180 0 78 (dk_at dksX7_ends_1 14 rfl rfl)
theorem dX7_ends_41 : decode cX7_ends 41 = .ok (.iload_n 3, 1) := dk_29 (dk_at dksX7_ends_1 17 rfl rfl)
theorem dX7_ends_42 : decode cX7_ends 42 = .ok (.iaload, 1) := dk_46 (dk_at dksX7_ends_1 18 rfl rfl)
theorem dX7_ends_43 : decode cX7_ends 43 = .ok (.iastore, 1) := dk_79 (dk_at dksX7_ends_1 19 rfl rfl)
theorem dX7_ends_44 : decode cX7_ends 44 = .ok (.aload_n 0, 1) := dk_42 (dk_at dksX7_ends_1 20 rfl rfl)
theorem dX7_ends_45 : decode cX7_ends 45 = .ok (.getfield 72, 3) := dk_180 0 72 (dk_at dksX7_ends_1 21 rfl rfl)
theorem dX7_ends_48 : decode cX7_ends 48 = .ok (.bipush 24, 2) := dk_16 24 (dk_at dksX7_ends_2 0 rfl rfl)
theorem dX7_ends_50 : decode cX7_ends 50 = .ok (.iload_n 1, 1) := dk_27 (dk_at dksX7_ends_2 2 rfl rfl)
theorem dX7_ends_51 : decode cX7_ends 51 = .ok (.imul, 1) := dk_104 (dk_at dksX7_ends_2 3 rfl rfl)
theorem dX7_ends_52 : decode cX7_ends 52 = .ok (.iload_n 3, 1) := dk_29 (dk_at dksX7_ends_2 4 rfl rfl)
theorem dX7_ends_53 : decode cX7_ends 53 = .ok (.iadd, 1) := dk_96 (dk_at dksX7_ends_2 5 rfl rfl)
theorem dX7_ends_54 : decode cX7_ends 54 = .ok (.aload_n 0, 1) := dk_42 (dk_at dksX7_ends_2 6 rfl rfl)
theorem dX7_ends_55 : decode cX7_ends 55 = .ok (.getfield 81, 3) := dk_180 0 81 (dk_at dksX7_ends_2 7 rfl rfl)
theorem dX7_ends_58 : decode cX7_ends 58 = .ok (.iload_n 3, 1) := dk_29 (dk_at dksX7_ends_2 10 rfl rfl)
theorem dX7_ends_59 : decode cX7_ends 59 = .ok (.iaload, 1) := dk_46 (dk_at dksX7_ends_2 11 rfl rfl)
theorem dX7_ends_60 : decode cX7_ends 60 = .ok (.iastore, 1) := dk_79 (dk_at dksX7_ends_2 12 rfl rfl)
theorem dX7_ends_61 : decode cX7_ends 61 = .ok (.aload_n 0, 1) := dk_42 (dk_at dksX7_ends_2 13 rfl rfl)
theorem dX7_ends_62 : decode cX7_ends 62 = .ok (.getfield 75, 3) := dk_180 0 75 (dk_at dksX7_ends_2 14 rfl rfl)
theorem dX7_ends_65 : decode cX7_ends 65 = .ok (.bipush 24, 2) := dk_16 24 (dk_at dksX7_ends_2 17 rfl rfl)
theorem dX7_ends_67 : decode cX7_ends 67 = .ok (.iload_n 1, 1) := dk_27 (dk_at dksX7_ends_2 19 rfl rfl)
theorem dX7_ends_68 : decode cX7_ends 68 = .ok (.imul, 1) := dk_104 (dk_at dksX7_ends_2 20 rfl rfl)
theorem dX7_ends_69 : decode cX7_ends 69 = .ok (.iload_n 3, 1) := dk_29 (dk_at dksX7_ends_2 21 rfl rfl)
theorem dX7_ends_70 : decode cX7_ends 70 = .ok (.iadd, 1) := dk_96 (dk_at dksX7_ends_2 22 rfl rfl)
theorem dX7_ends_71 : decode cX7_ends 71 = .ok (.aload_n 0, 1) := dk_42 (dk_at dksX7_ends_2 23 rfl rfl)
theorem dX7_ends_72 : decode cX7_ends 72 = .ok (.getfield 84, 3) := dk_180 0 84 (dk_at dksX7_ends_3 0 rfl rfl)
theorem dX7_ends_75 : decode cX7_ends 75 = .ok (.iload_n 3, 1) := dk_29 (dk_at dksX7_ends_3 3 rfl rfl)
theorem dX7_ends_76 : decode cX7_ends 76 = .ok (.iaload, 1) := dk_46 (dk_at dksX7_ends_3 4 rfl rfl)
theorem dX7_ends_77 : decode cX7_ends 77 = .ok (.iastore, 1) := dk_79 (dk_at dksX7_ends_3 5 rfl rfl)
theorem dX7_ends_78 : decode cX7_ends 78 = .ok (.iinc 3 1, 3) := dk_132 3 1 (dk_at dksX7_ends_3 6 rfl rfl)
theorem dX7_ends_81 : decode cX7_ends 81 = .ok (.goto (-59), 3) := dk_167 255 197 (dk_at dksX7_ends_3 9 rfl rfl)
theorem dX7_ends_84 : decode cX7_ends 84 = .ok (.iconst 0, 1) := dk_3 (dk_at dksX7_ends_3 12 rfl rfl)
theorem dX7_ends_85 : decode cX7_ends 85 = .ok (.ireturn, 1) := dk_172 (dk_at dksX7_ends_3 13 rfl rfl)
abbrev cX7_makeFolder : ByteArray := prog_17_method_45_code
def yX7_makeFolder : MethodName := ⟨RX7, "makeFolder", "(II)V"⟩
def dkwX7_makeFolder_5 : List UInt8 := [42, 29, 21, 4, 182, 1, 50, 153, 0, 7, 3, 167, 0, 4, 6, 181, 0, 189, 177]
abbrev dktX7_makeFolder_5 : List UInt8 := dkwX7_makeFolder_5 ++ []
def dkwX7_makeFolder_4 : List UInt8 := [159, 0, 18, 42, 180, 0, 72, 21, 5, 46, 7, 160, 0, 7, 6, 167, 0, 4, 5, 3, 182, 1, 40, 42]
abbrev dktX7_makeFolder_4 : List UInt8 := dkwX7_makeFolder_4 ++ dktX7_makeFolder_5
def dkwX7_makeFolder_3 : List UInt8 := [42, 29, 182, 1, 47, 54, 4, 42, 2, 29, 100, 28, 182, 0, 207, 54, 5, 42, 29, 28, 21, 5, 2]
abbrev dktX7_makeFolder_3 : List UInt8 := dkwX7_makeFolder_3 ++ dktX7_makeFolder_4
def dkwX7_makeFolder_2 : List UInt8 := [42, 29, 28, 182, 1, 37, 154, 0, 12, 42, 29, 28, 182, 1, 44, 154, 0, 9, 42, 6, 181, 0, 189, 177]
abbrev dktX7_makeFolder_2 : List UInt8 := dkwX7_makeFolder_2 ++ dktX7_makeFolder_3
def dkwX7_makeFolder_1 : List UInt8 := [167, 0, 4, 3, 181, 0, 189, 42, 180, 0, 189, 158, 0, 4, 177, 42, 29, 28, 182, 1, 34, 154, 0, 21]
abbrev dktX7_makeFolder_1 : List UInt8 := dkwX7_makeFolder_1 ++ dktX7_makeFolder_2
def dkwX7_makeFolder_0 : List UInt8 := [42, 27, 182, 1, 24, 62, 42, 29, 2, 160, 0, 7, 4, 167, 0, 15, 28, 184, 0, 221, 154, 0, 7, 5]
abbrev dktX7_makeFolder_0 : List UInt8 := dkwX7_makeFolder_0 ++ dktX7_makeFolder_1
theorem dksX7_makeFolder_0 : cX7_makeFolder.data.toList.drop 0 = dktX7_makeFolder_0 := by decide +kernel
theorem dksX7_makeFolder_1 : cX7_makeFolder.data.toList.drop 24 = dktX7_makeFolder_1 := dk_seg dksX7_makeFolder_0 24 rfl rfl
theorem dksX7_makeFolder_2 : cX7_makeFolder.data.toList.drop 48 = dktX7_makeFolder_2 := dk_seg dksX7_makeFolder_1 24 rfl rfl
theorem dksX7_makeFolder_3 : cX7_makeFolder.data.toList.drop 72 = dktX7_makeFolder_3 := dk_seg dksX7_makeFolder_2 24 rfl rfl
theorem dksX7_makeFolder_4 : cX7_makeFolder.data.toList.drop 95 = dktX7_makeFolder_4 := dk_seg dksX7_makeFolder_3 23 rfl rfl
theorem dksX7_makeFolder_5 : cX7_makeFolder.data.toList.drop 119 = dktX7_makeFolder_5 := dk_seg dksX7_makeFolder_4 24 rfl rfl
theorem dX7_makeFolder_0 : decode cX7_makeFolder 0 = .ok (.aload_n 0, 1) := dk_42 (dk_at dksX7_makeFolder_0 0 rfl rfl)
theorem dX7_makeFolder_1 : decode cX7_makeFolder 1 = .ok (.iload_n 1, 1) := dk_27 (dk_at dksX7_makeFolder_0 1 rfl rfl)
theorem dX7_makeFolder_2 : decode cX7_makeFolder 2 = .ok (.invokevirtual 280, 3) := dk_182 1 24 (dk_at dksX7_makeFolder_0 2 rfl rfl)
theorem dX7_makeFolder_5 : decode cX7_makeFolder 5 = .ok (.istore_n 3, 1) := dk_62 (dk_at dksX7_makeFolder_0 5 rfl rfl)
theorem dX7_makeFolder_6 : decode cX7_makeFolder 6 = .ok (.aload_n 0, 1) := dk_42 (dk_at dksX7_makeFolder_0 6 rfl rfl)
theorem dX7_makeFolder_7 : decode cX7_makeFolder 7 = .ok (.iload_n 3, 1) := dk_29 (dk_at dksX7_makeFolder_0 7 rfl rfl)
theorem dX7_makeFolder_8 : decode cX7_makeFolder 8 = .ok (.iconst (-1), 1) := dk_2 (dk_at dksX7_makeFolder_0 8 rfl rfl)
theorem dX7_makeFolder_9 : decode cX7_makeFolder 9 = .ok (.if_icmp .ne 7, 3) := dk_160 0 7 (dk_at dksX7_makeFolder_0 9 rfl rfl)
theorem dX7_makeFolder_12 : decode cX7_makeFolder 12 = .ok (.iconst 1, 1) := dk_4 (dk_at dksX7_makeFolder_0 12 rfl rfl)
theorem dX7_makeFolder_13 : decode cX7_makeFolder 13 = .ok (.goto 15, 3) := dk_167 0 15 (dk_at dksX7_makeFolder_0 13 rfl rfl)
theorem dX7_makeFolder_16 : decode cX7_makeFolder 16 = .ok (.iload_n 2, 1) := dk_28 (dk_at dksX7_makeFolder_0 16 rfl rfl)
theorem dX7_makeFolder_17 : decode cX7_makeFolder 17 = .ok (.invokestatic 221, 3) := dk_184 0 221 (dk_at dksX7_makeFolder_0 17 rfl rfl)
theorem dX7_makeFolder_20 : decode cX7_makeFolder 20 = .ok (.ifCond .ne 7, 3) := dk_154 0 7 (dk_at dksX7_makeFolder_0 20 rfl rfl)
theorem dX7_makeFolder_23 : decode cX7_makeFolder 23 = .ok (.iconst 2, 1) := dk_5 (dk_at dksX7_makeFolder_0 23 rfl rfl)
theorem dX7_makeFolder_24 : decode cX7_makeFolder 24 = .ok (.goto 4, 3) := dk_167 0 4 (dk_at dksX7_makeFolder_1 0 rfl rfl)
theorem dX7_makeFolder_27 : decode cX7_makeFolder 27 = .ok (.iconst 0, 1) := dk_3 (dk_at dksX7_makeFolder_1 3 rfl rfl)
theorem dX7_makeFolder_28 : decode cX7_makeFolder 28 = .ok (.putfield 189, 3) := dk_181 0 189 (dk_at dksX7_makeFolder_1 4 rfl rfl)
theorem dX7_makeFolder_31 : decode cX7_makeFolder 31 = .ok (.aload_n 0, 1) := dk_42 (dk_at dksX7_makeFolder_1 7 rfl rfl)
theorem dX7_makeFolder_32 : decode cX7_makeFolder 32 = .ok (.getfield 189, 3) := dk_180 0 189 (dk_at dksX7_makeFolder_1 8 rfl rfl)
theorem dX7_makeFolder_35 : decode cX7_makeFolder 35 = .ok (.ifCond .le 4, 3) := dk_158 0 4 (dk_at dksX7_makeFolder_1 11 rfl rfl)
theorem dX7_makeFolder_38 : decode cX7_makeFolder 38 = .ok (.return_, 1) := dk_177 (dk_at dksX7_makeFolder_1 14 rfl rfl)
theorem dX7_makeFolder_39 : decode cX7_makeFolder 39 = .ok (.aload_n 0, 1) := dk_42 (dk_at dksX7_makeFolder_1 15 rfl rfl)
theorem dX7_makeFolder_40 : decode cX7_makeFolder 40 = .ok (.iload_n 3, 1) := dk_29 (dk_at dksX7_makeFolder_1 16 rfl rfl)
theorem dX7_makeFolder_41 : decode cX7_makeFolder 41 = .ok (.iload_n 2, 1) := dk_28 (dk_at dksX7_makeFolder_1 17 rfl rfl)
theorem dX7_makeFolder_42 : decode cX7_makeFolder 42 = .ok (.invokevirtual 290, 3) := dk_182 1 34 (dk_at dksX7_makeFolder_1 18 rfl rfl)
theorem dX7_makeFolder_45 : decode cX7_makeFolder 45 = .ok (.ifCond .ne 21, 3) := dk_154 0 21 (dk_at dksX7_makeFolder_1 21 rfl rfl)
theorem dX7_makeFolder_48 : decode cX7_makeFolder 48 = .ok (.aload_n 0, 1) := dk_42 (dk_at dksX7_makeFolder_2 0 rfl rfl)
theorem dX7_makeFolder_49 : decode cX7_makeFolder 49 = .ok (.iload_n 3, 1) := dk_29 (dk_at dksX7_makeFolder_2 1 rfl rfl)
theorem dX7_makeFolder_50 : decode cX7_makeFolder 50 = .ok (.iload_n 2, 1) := dk_28 (dk_at dksX7_makeFolder_2 2 rfl rfl)
theorem dX7_makeFolder_51 : decode cX7_makeFolder 51 = .ok (.invokevirtual 293, 3) := dk_182 1 37 (dk_at dksX7_makeFolder_2 3 rfl rfl)
theorem dX7_makeFolder_54 : decode cX7_makeFolder 54 = .ok (.ifCond .ne 12, 3) := dk_154 0 12 (dk_at dksX7_makeFolder_2 6 rfl rfl)
theorem dX7_makeFolder_57 : decode cX7_makeFolder 57 = .ok (.aload_n 0, 1) := dk_42 (dk_at dksX7_makeFolder_2 9 rfl rfl)
theorem dX7_makeFolder_58 : decode cX7_makeFolder 58 = .ok (.iload_n 3, 1) := dk_29 (dk_at dksX7_makeFolder_2 10 rfl rfl)
theorem dX7_makeFolder_59 : decode cX7_makeFolder 59 = .ok (.iload_n 2, 1) := dk_28 (dk_at dksX7_makeFolder_2 11 rfl rfl)
theorem dX7_makeFolder_60 : decode cX7_makeFolder 60 = .ok (.invokevirtual 300, 3) := dk_182 1 44 (dk_at dksX7_makeFolder_2 12 rfl rfl)
theorem dX7_makeFolder_63 : decode cX7_makeFolder 63 = .ok (.ifCond .ne 9, 3) := dk_154 0 9 (dk_at dksX7_makeFolder_2 15 rfl rfl)
theorem dX7_makeFolder_66 : decode cX7_makeFolder 66 = .ok (.aload_n 0, 1) := dk_42 (dk_at dksX7_makeFolder_2 18 rfl rfl)
theorem dX7_makeFolder_67 : decode cX7_makeFolder 67 = .ok (.iconst 3, 1) := dk_6 (dk_at dksX7_makeFolder_2 19 rfl rfl)
theorem dX7_makeFolder_68 : decode cX7_makeFolder 68 = .ok (.putfield 189, 3) := dk_181 0 189 (dk_at dksX7_makeFolder_2 20 rfl rfl)
theorem dX7_makeFolder_71 : decode cX7_makeFolder 71 = .ok (.return_, 1) := dk_177 (dk_at dksX7_makeFolder_2 23 rfl rfl)
theorem dX7_makeFolder_72 : decode cX7_makeFolder 72 = .ok (.aload_n 0, 1) := dk_42 (dk_at dksX7_makeFolder_3 0 rfl rfl)
theorem dX7_makeFolder_73 : decode cX7_makeFolder 73 = .ok (.iload_n 3, 1) := dk_29 (dk_at dksX7_makeFolder_3 1 rfl rfl)
theorem dX7_makeFolder_74 : decode cX7_makeFolder 74 = .ok (.invokevirtual 303, 3) := dk_182 1 47 (dk_at dksX7_makeFolder_3 2 rfl rfl)
theorem dX7_makeFolder_77 : decode cX7_makeFolder 77 = .ok (.istore 4, 2) := dk_54 4 (dk_at dksX7_makeFolder_3 5 rfl rfl)
theorem dX7_makeFolder_79 : decode cX7_makeFolder 79 = .ok (.aload_n 0, 1) := dk_42 (dk_at dksX7_makeFolder_3 7 rfl rfl)
theorem dX7_makeFolder_80 : decode cX7_makeFolder 80 = .ok (.iconst (-1), 1) := dk_2 (dk_at dksX7_makeFolder_3 8 rfl rfl)
theorem dX7_makeFolder_81 : decode cX7_makeFolder 81 = .ok (.iload_n 3, 1) := dk_29 (dk_at dksX7_makeFolder_3 9 rfl rfl)
theorem dX7_makeFolder_82 : decode cX7_makeFolder 82 = .ok (.isub, 1) := dk_100 (dk_at dksX7_makeFolder_3 10 rfl rfl)
theorem dX7_makeFolder_83 : decode cX7_makeFolder 83 = .ok (.iload_n 2, 1) := dk_28 (dk_at dksX7_makeFolder_3 11 rfl rfl)
theorem dX7_makeFolder_84 : decode cX7_makeFolder 84 = .ok (.invokevirtual 207, 3) := dk_182 0 207 (dk_at dksX7_makeFolder_3 12 rfl rfl)
theorem dX7_makeFolder_87 : decode cX7_makeFolder 87 = .ok (.istore 5, 2) := dk_54 5 (dk_at dksX7_makeFolder_3 15 rfl rfl)
theorem dX7_makeFolder_89 : decode cX7_makeFolder 89 = .ok (.aload_n 0, 1) := dk_42 (dk_at dksX7_makeFolder_3 17 rfl rfl)
theorem dX7_makeFolder_90 : decode cX7_makeFolder 90 = .ok (.iload_n 3, 1) := dk_29 (dk_at dksX7_makeFolder_3 18 rfl rfl)
theorem dX7_makeFolder_91 : decode cX7_makeFolder 91 = .ok (.iload_n 2, 1) := dk_28 (dk_at dksX7_makeFolder_3 19 rfl rfl)
theorem dX7_makeFolder_92 : decode cX7_makeFolder 92 = .ok (.iload 5, 2) := dk_21 5 (dk_at dksX7_makeFolder_3 20 rfl rfl)
theorem dX7_makeFolder_94 : decode cX7_makeFolder 94 = .ok (.iconst (-1), 1) := dk_2 (dk_at dksX7_makeFolder_3 22 rfl rfl)
theorem dX7_makeFolder_95 : decode cX7_makeFolder 95 = .ok (.if_icmp .eq 18, 3) := dk_159 0 18 (dk_at dksX7_makeFolder_4 0 rfl rfl)
theorem dX7_makeFolder_98 : decode cX7_makeFolder 98 = .ok (.aload_n 0, 1) := dk_42 (dk_at dksX7_makeFolder_4 3 rfl rfl)
theorem dX7_makeFolder_99 : decode cX7_makeFolder 99 = .ok (.getfield 72, 3) := dk_180 0 72 (dk_at dksX7_makeFolder_4 4 rfl rfl)
theorem dX7_makeFolder_102 : decode cX7_makeFolder 102 = .ok (.iload 5, 2) := dk_21 5 (dk_at dksX7_makeFolder_4 7 rfl rfl)
theorem dX7_makeFolder_104 : decode cX7_makeFolder 104 = .ok (.iaload, 1) := dk_46 (dk_at dksX7_makeFolder_4 9 rfl rfl)
theorem dX7_makeFolder_105 : decode cX7_makeFolder 105 = .ok (.iconst 4, 1) := dk_7 (dk_at dksX7_makeFolder_4 10 rfl rfl)
theorem dX7_makeFolder_106 : decode cX7_makeFolder 106 = .ok (.if_icmp .ne 7, 3) := dk_160 0 7 (dk_at dksX7_makeFolder_4 11 rfl rfl)
theorem dX7_makeFolder_109 : decode cX7_makeFolder 109 = .ok (.iconst 3, 1) := dk_6 (dk_at dksX7_makeFolder_4 14 rfl rfl)
theorem dX7_makeFolder_110 : decode cX7_makeFolder 110 = .ok (.goto 4, 3) := dk_167 0 4 (dk_at dksX7_makeFolder_4 15 rfl rfl)
theorem dX7_makeFolder_113 : decode cX7_makeFolder 113 = .ok (.iconst 2, 1) := dk_5 (dk_at dksX7_makeFolder_4 18 rfl rfl)
theorem dX7_makeFolder_114 : decode cX7_makeFolder 114 = .ok (.iconst 0, 1) := dk_3 (dk_at dksX7_makeFolder_4 19 rfl rfl)
theorem dX7_makeFolder_115 : decode cX7_makeFolder 115 = .ok (.invokevirtual 296, 3) := dk_182 1 40 (dk_at dksX7_makeFolder_4 20 rfl rfl)
theorem dX7_makeFolder_118 : decode cX7_makeFolder 118 = .ok (.aload_n 0, 1) := dk_42 (dk_at dksX7_makeFolder_4 23 rfl rfl)
theorem dX7_makeFolder_119 : decode cX7_makeFolder 119 = .ok (.aload_n 0, 1) := dk_42 (dk_at dksX7_makeFolder_5 0 rfl rfl)
theorem dX7_makeFolder_120 : decode cX7_makeFolder 120 = .ok (.iload_n 3, 1) := dk_29 (dk_at dksX7_makeFolder_5 1 rfl rfl)
theorem dX7_makeFolder_121 : decode cX7_makeFolder 121 = .ok (.iload 4, 2) := dk_21 4 (dk_at dksX7_makeFolder_5 2 rfl rfl)
theorem dX7_makeFolder_123 : decode cX7_makeFolder 123 = .ok (.invokevirtual 306, 3) := dk_182 1 50 (dk_at dksX7_makeFolder_5 4 rfl rfl)
theorem dX7_makeFolder_126 : decode cX7_makeFolder 126 = .ok (.ifCond .eq 7, 3) := dk_153 0 7 (dk_at dksX7_makeFolder_5 7 rfl rfl)
theorem dX7_makeFolder_129 : decode cX7_makeFolder 129 = .ok (.iconst 0, 1) := dk_3 (dk_at dksX7_makeFolder_5 10 rfl rfl)
theorem dX7_makeFolder_130 : decode cX7_makeFolder 130 = .ok (.goto 4, 3) := dk_167 0 4 (dk_at dksX7_makeFolder_5 11 rfl rfl)
theorem dX7_makeFolder_133 : decode cX7_makeFolder 133 = .ok (.iconst 3, 1) := dk_6 (dk_at dksX7_makeFolder_5 14 rfl rfl)
theorem dX7_makeFolder_134 : decode cX7_makeFolder 134 = .ok (.putfield 189, 3) := dk_181 0 189 (dk_at dksX7_makeFolder_5 15 rfl rfl)
theorem dX7_makeFolder_137 : decode cX7_makeFolder 137 = .ok (.return_, 1) := dk_177 (dk_at dksX7_makeFolder_5 18 rfl rfl)
abbrev cX7_remove : ByteArray := prog_17_method_46_code
def yX7_remove : MethodName := ⟨RX7, "remove", "(II)I"⟩
def dkwX7_remove_5 : List UInt8 := [21, 6, 182, 1, 50, 153, 0, 8, 21, 4, 167, 0, 8, 42, 6, 182, 0, 228, 172]
abbrev dktX7_remove_5 : List UInt8 := dkwX7_remove_5 ++ []
def dkwX7_remove_4 : List UInt8 := [16, 10, 112, 96, 2, 79, 21, 4, 172, 42, 29, 182, 1, 47, 54, 6, 42, 29, 28, 182, 1, 56, 42, 29]
abbrev dktX7_remove_4 : List UInt8 := dkwX7_remove_4 ++ dktX7_remove_5
def dkwX7_remove_3 : List UInt8 := [16, 10, 108, 182, 1, 31, 54, 5, 21, 5, 2, 159, 0, 22, 42, 180, 0, 90, 16, 10, 21, 5, 104, 28]
abbrev dktX7_remove_3 : List UInt8 := dkwX7_remove_3 ++ dktX7_remove_4
def dkwX7_remove_2 : List UInt8 := [21, 4, 153, 0, 12, 42, 29, 28, 182, 1, 53, 153, 0, 9, 42, 6, 182, 0, 228, 172, 42, 29, 28]
abbrev dktX7_remove_2 : List UInt8 := dkwX7_remove_2 ++ dktX7_remove_3
def dkwX7_remove_1 : List UInt8 := [167, 0, 4, 3, 181, 0, 189, 42, 180, 0, 189, 158, 0, 5, 3, 172, 42, 29, 28, 182, 1, 37, 54, 4]
abbrev dktX7_remove_1 : List UInt8 := dkwX7_remove_1 ++ dktX7_remove_2
def dkwX7_remove_0 : List UInt8 := [42, 27, 182, 1, 24, 62, 42, 29, 2, 160, 0, 7, 4, 167, 0, 15, 28, 184, 0, 221, 154, 0, 7, 5]
abbrev dktX7_remove_0 : List UInt8 := dkwX7_remove_0 ++ dktX7_remove_1
theorem dksX7_remove_0 : cX7_remove.data.toList.drop 0 = dktX7_remove_0 := by decide +kernel
theorem dksX7_remove_1 : cX7_remove.data.toList.drop 24 = dktX7_remove_1 := dk_seg dksX7_remove_0 24 rfl rfl
theorem dksX7_remove_2 : cX7_remove.data.toList.drop 48 = dktX7_remove_2 := dk_seg dksX7_remove_1 24 rfl rfl
theorem dksX7_remove_3 : cX7_remove.data.toList.drop 71 = dktX7_remove_3 := dk_seg dksX7_remove_2 23 rfl rfl
theorem dksX7_remove_4 : cX7_remove.data.toList.drop 95 = dktX7_remove_4 := dk_seg dksX7_remove_3 24 rfl rfl
theorem dksX7_remove_5 : cX7_remove.data.toList.drop 119 = dktX7_remove_5 := dk_seg dksX7_remove_4 24 rfl rfl
theorem dX7_remove_0 : decode cX7_remove 0 = .ok (.aload_n 0, 1) := dk_42 (dk_at dksX7_remove_0 0 rfl rfl)
theorem dX7_remove_1 : decode cX7_remove 1 = .ok (.iload_n 1, 1) := dk_27 (dk_at dksX7_remove_0 1 rfl rfl)
theorem dX7_remove_2 : decode cX7_remove 2 = .ok (.invokevirtual 280, 3) := dk_182 1 24 (dk_at dksX7_remove_0 2 rfl rfl)
theorem dX7_remove_5 : decode cX7_remove 5 = .ok (.istore_n 3, 1) := dk_62 (dk_at dksX7_remove_0 5 rfl rfl)
theorem dX7_remove_6 : decode cX7_remove 6 = .ok (.aload_n 0, 1) := dk_42 (dk_at dksX7_remove_0 6 rfl rfl)
theorem dX7_remove_7 : decode cX7_remove 7 = .ok (.iload_n 3, 1) := dk_29 (dk_at dksX7_remove_0 7 rfl rfl)
theorem dX7_remove_8 : decode cX7_remove 8 = .ok (.iconst (-1), 1) := dk_2 (dk_at dksX7_remove_0 8 rfl rfl)
theorem dX7_remove_9 : decode cX7_remove 9 = .ok (.if_icmp .ne 7, 3) := dk_160 0 7 (dk_at dksX7_remove_0 9 rfl rfl)
theorem dX7_remove_12 : decode cX7_remove 12 = .ok (.iconst 1, 1) := dk_4 (dk_at dksX7_remove_0 12 rfl rfl)
theorem dX7_remove_13 : decode cX7_remove 13 = .ok (.goto 15, 3) := dk_167 0 15 (dk_at dksX7_remove_0 13 rfl rfl)
theorem dX7_remove_16 : decode cX7_remove 16 = .ok (.iload_n 2, 1) := dk_28 (dk_at dksX7_remove_0 16 rfl rfl)
theorem dX7_remove_17 : decode cX7_remove 17 = .ok (.invokestatic 221, 3) := dk_184 0 221 (dk_at dksX7_remove_0 17 rfl rfl)
theorem dX7_remove_20 : decode cX7_remove 20 = .ok (.ifCond .ne 7, 3) := dk_154 0 7 (dk_at dksX7_remove_0 20 rfl rfl)
theorem dX7_remove_23 : decode cX7_remove 23 = .ok (.iconst 2, 1) := dk_5 (dk_at dksX7_remove_0 23 rfl rfl)
theorem dX7_remove_24 : decode cX7_remove 24 = .ok (.goto 4, 3) := dk_167 0 4 (dk_at dksX7_remove_1 0 rfl rfl)
theorem dX7_remove_27 : decode cX7_remove 27 = .ok (.iconst 0, 1) := dk_3 (dk_at dksX7_remove_1 3 rfl rfl)
theorem dX7_remove_28 : decode cX7_remove 28 = .ok (.putfield 189, 3) := dk_181 0 189 (dk_at dksX7_remove_1 4 rfl rfl)
theorem dX7_remove_31 : decode cX7_remove 31 = .ok (.aload_n 0, 1) := dk_42 (dk_at dksX7_remove_1 7 rfl rfl)
theorem dX7_remove_32 : decode cX7_remove 32 = .ok (.getfield 189, 3) := dk_180 0 189 (dk_at dksX7_remove_1 8 rfl rfl)
theorem dX7_remove_35 : decode cX7_remove 35 = .ok (.ifCond .le 5, 3) := dk_158 0 5 (dk_at dksX7_remove_1 11 rfl rfl)
theorem dX7_remove_38 : decode cX7_remove 38 = .ok (.iconst 0, 1) := dk_3 (dk_at dksX7_remove_1 14 rfl rfl)
theorem dX7_remove_39 : decode cX7_remove 39 = .ok (.ireturn, 1) := dk_172 (dk_at dksX7_remove_1 15 rfl rfl)
theorem dX7_remove_40 : decode cX7_remove 40 = .ok (.aload_n 0, 1) := dk_42 (dk_at dksX7_remove_1 16 rfl rfl)
theorem dX7_remove_41 : decode cX7_remove 41 = .ok (.iload_n 3, 1) := dk_29 (dk_at dksX7_remove_1 17 rfl rfl)
theorem dX7_remove_42 : decode cX7_remove 42 = .ok (.iload_n 2, 1) := dk_28 (dk_at dksX7_remove_1 18 rfl rfl)
theorem dX7_remove_43 : decode cX7_remove 43 = .ok (.invokevirtual 293, 3) := dk_182 1 37 (dk_at dksX7_remove_1 19 rfl rfl)
theorem dX7_remove_46 : decode cX7_remove 46 = .ok (.istore 4, 2) := dk_54 4 (dk_at dksX7_remove_1 22 rfl rfl)
theorem dX7_remove_48 : decode cX7_remove 48 = .ok (.iload 4, 2) := dk_21 4 (dk_at dksX7_remove_2 0 rfl rfl)
theorem dX7_remove_50 : decode cX7_remove 50 = .ok (.ifCond .eq 12, 3) := dk_153 0 12 (dk_at dksX7_remove_2 2 rfl rfl)
theorem dX7_remove_53 : decode cX7_remove 53 = .ok (.aload_n 0, 1) := dk_42 (dk_at dksX7_remove_2 5 rfl rfl)
theorem dX7_remove_54 : decode cX7_remove 54 = .ok (.iload_n 3, 1) := dk_29 (dk_at dksX7_remove_2 6 rfl rfl)
theorem dX7_remove_55 : decode cX7_remove 55 = .ok (.iload_n 2, 1) := dk_28 (dk_at dksX7_remove_2 7 rfl rfl)
theorem dX7_remove_56 : decode cX7_remove 56 = .ok (.invokevirtual 309, 3) := dk_182 1 53 (dk_at dksX7_remove_2 8 rfl rfl)
theorem dX7_remove_59 : decode cX7_remove 59 = .ok (.ifCond .eq 9, 3) := dk_153 0 9 (dk_at dksX7_remove_2 11 rfl rfl)
theorem dX7_remove_62 : decode cX7_remove 62 = .ok (.aload_n 0, 1) := dk_42 (dk_at dksX7_remove_2 14 rfl rfl)
theorem dX7_remove_63 : decode cX7_remove 63 = .ok (.iconst 3, 1) := dk_6 (dk_at dksX7_remove_2 15 rfl rfl)
theorem dX7_remove_64 : decode cX7_remove 64 = .ok (.invokevirtual 228, 3) := dk_182 0 228 (dk_at dksX7_remove_2 16 rfl rfl)
theorem dX7_remove_67 : decode cX7_remove 67 = .ok (.ireturn, 1) := dk_172 (dk_at dksX7_remove_2 19 rfl rfl)
theorem dX7_remove_68 : decode cX7_remove 68 = .ok (.aload_n 0, 1) := dk_42 (dk_at dksX7_remove_2 20 rfl rfl)
theorem dX7_remove_69 : decode cX7_remove 69 = .ok (.iload_n 3, 1) := dk_29 (dk_at dksX7_remove_2 21 rfl rfl)
theorem dX7_remove_70 : decode cX7_remove 70 = .ok (.iload_n 2, 1) := dk_28 (dk_at dksX7_remove_2 22 rfl rfl)
theorem dX7_remove_71 : decode cX7_remove 71 = .ok (.bipush 10, 2) := dk_16 10 (dk_at dksX7_remove_3 0 rfl rfl)
theorem dX7_remove_73 : decode cX7_remove 73 = .ok (.idiv, 1) := dk_108 (dk_at dksX7_remove_3 2 rfl rfl)
theorem dX7_remove_74 : decode cX7_remove 74 = .ok (.invokevirtual 287, 3) := dk_182 1 31 (dk_at dksX7_remove_3 3 rfl rfl)
theorem dX7_remove_77 : decode cX7_remove 77 = .ok (.istore 5, 2) := dk_54 5 (dk_at dksX7_remove_3 6 rfl rfl)
theorem dX7_remove_79 : decode cX7_remove 79 = .ok (.iload 5, 2) := dk_21 5 (dk_at dksX7_remove_3 8 rfl rfl)
theorem dX7_remove_81 : decode cX7_remove 81 = .ok (.iconst (-1), 1) := dk_2 (dk_at dksX7_remove_3 10 rfl rfl)
theorem dX7_remove_82 : decode cX7_remove 82 = .ok (.if_icmp .eq 22, 3) := dk_159 0 22 (dk_at dksX7_remove_3 11 rfl rfl)
theorem dX7_remove_85 : decode cX7_remove 85 = .ok (.aload_n 0, 1) := dk_42 (dk_at dksX7_remove_3 14 rfl rfl)
theorem dX7_remove_86 : decode cX7_remove 86 = .ok (.getfield 90, 3) := dk_180 0 90 (dk_at dksX7_remove_3 15 rfl rfl)
theorem dX7_remove_89 : decode cX7_remove 89 = .ok (.bipush 10, 2) := dk_16 10 (dk_at dksX7_remove_3 18 rfl rfl)
theorem dX7_remove_91 : decode cX7_remove 91 = .ok (.iload 5, 2) := dk_21 5 (dk_at dksX7_remove_3 20 rfl rfl)
theorem dX7_remove_93 : decode cX7_remove 93 = .ok (.imul, 1) := dk_104 (dk_at dksX7_remove_3 22 rfl rfl)
theorem dX7_remove_94 : decode cX7_remove 94 = .ok (.iload_n 2, 1) := dk_28 (dk_at dksX7_remove_3 23 rfl rfl)
theorem dX7_remove_95 : decode cX7_remove 95 = .ok (.bipush 10, 2) := dk_16 10 (dk_at dksX7_remove_4 0 rfl rfl)
theorem dX7_remove_97 : decode cX7_remove 97 = .ok (.irem, 1) := dk_112 (dk_at dksX7_remove_4 2 rfl rfl)
theorem dX7_remove_98 : decode cX7_remove 98 = .ok (.iadd, 1) := dk_96 (dk_at dksX7_remove_4 3 rfl rfl)
theorem dX7_remove_99 : decode cX7_remove 99 = .ok (.iconst (-1), 1) := dk_2 (dk_at dksX7_remove_4 4 rfl rfl)
theorem dX7_remove_100 : decode cX7_remove 100 = .ok (.iastore, 1) := dk_79 (dk_at dksX7_remove_4 5 rfl rfl)
theorem dX7_remove_101 : decode cX7_remove 101 = .ok (.iload 4, 2) := dk_21 4 (dk_at dksX7_remove_4 6 rfl rfl)
theorem dX7_remove_103 : decode cX7_remove 103 = .ok (.ireturn, 1) := dk_172 (dk_at dksX7_remove_4 8 rfl rfl)
theorem dX7_remove_104 : decode cX7_remove 104 = .ok (.aload_n 0, 1) := dk_42 (dk_at dksX7_remove_4 9 rfl rfl)
theorem dX7_remove_105 : decode cX7_remove 105 = .ok (.iload_n 3, 1) := dk_29 (dk_at dksX7_remove_4 10 rfl rfl)
theorem dX7_remove_106 : decode cX7_remove 106 = .ok (.invokevirtual 303, 3) := dk_182 1 47 (dk_at dksX7_remove_4 11 rfl rfl)
theorem dX7_remove_109 : decode cX7_remove 109 = .ok (.istore 6, 2) := dk_54 6 (dk_at dksX7_remove_4 14 rfl rfl)
theorem dX7_remove_111 : decode cX7_remove 111 = .ok (.aload_n 0, 1) := dk_42 (dk_at dksX7_remove_4 16 rfl rfl)
theorem dX7_remove_112 : decode cX7_remove 112 = .ok (.iload_n 3, 1) := dk_29 (dk_at dksX7_remove_4 17 rfl rfl)
theorem dX7_remove_113 : decode cX7_remove 113 = .ok (.iload_n 2, 1) := dk_28 (dk_at dksX7_remove_4 18 rfl rfl)
theorem dX7_remove_114 : decode cX7_remove 114 = .ok (.invokevirtual 312, 3) := dk_182 1 56 (dk_at dksX7_remove_4 19 rfl rfl)
theorem dX7_remove_117 : decode cX7_remove 117 = .ok (.aload_n 0, 1) := dk_42 (dk_at dksX7_remove_4 22 rfl rfl)
theorem dX7_remove_118 : decode cX7_remove 118 = .ok (.iload_n 3, 1) := dk_29 (dk_at dksX7_remove_4 23 rfl rfl)
theorem dX7_remove_119 : decode cX7_remove 119 = .ok (.iload 6, 2) := dk_21 6 (dk_at dksX7_remove_5 0 rfl rfl)
theorem dX7_remove_121 : decode cX7_remove 121 = .ok (.invokevirtual 306, 3) := dk_182 1 50 (dk_at dksX7_remove_5 2 rfl rfl)
theorem dX7_remove_124 : decode cX7_remove 124 = .ok (.ifCond .eq 8, 3) := dk_153 0 8 (dk_at dksX7_remove_5 5 rfl rfl)
theorem dX7_remove_127 : decode cX7_remove 127 = .ok (.iload 4, 2) := dk_21 4 (dk_at dksX7_remove_5 8 rfl rfl)
theorem dX7_remove_129 : decode cX7_remove 129 = .ok (.goto 8, 3) := dk_167 0 8 (dk_at dksX7_remove_5 10 rfl rfl)
theorem dX7_remove_132 : decode cX7_remove 132 = .ok (.aload_n 0, 1) := dk_42 (dk_at dksX7_remove_5 13 rfl rfl)
theorem dX7_remove_133 : decode cX7_remove 133 = .ok (.iconst 3, 1) := dk_6 (dk_at dksX7_remove_5 14 rfl rfl)
theorem dX7_remove_134 : decode cX7_remove 134 = .ok (.invokevirtual 228, 3) := dk_182 0 228 (dk_at dksX7_remove_5 15 rfl rfl)
theorem dX7_remove_137 : decode cX7_remove 137 = .ok (.ireturn, 1) := dk_172 (dk_at dksX7_remove_5 18 rfl rfl)
abbrev cX7_hasVolume : ByteArray := prog_17_method_36_code
def yX7_hasVolume : MethodName := ⟨RX7, "hasVolume", "(II)Z"⟩
def dkwX7_hasVolume_2 : List UInt8 := [167, 0, 4, 3, 62, 132, 4, 1, 167, 255, 205, 29, 172]
abbrev dktX7_hasVolume_2 : List UInt8 := dkwX7_hasVolume_2 ++ []
def dkwX7_hasVolume_1 : List UInt8 := [21, 4, 96, 46, 2, 159, 0, 22, 21, 4, 28, 159, 0, 12, 21, 4, 28, 184, 0, 210, 153, 0, 7, 4]
abbrev dktX7_hasVolume_1 : List UInt8 := dkwX7_hasVolume_1 ++ dktX7_hasVolume_2
def dkwX7_hasVolume_0 : List UInt8 := [3, 62, 4, 54, 4, 21, 4, 16, 100, 162, 0, 50, 29, 154, 0, 34, 42, 180, 0, 87, 16, 100, 27, 104]
abbrev dktX7_hasVolume_0 : List UInt8 := dkwX7_hasVolume_0 ++ dktX7_hasVolume_1
theorem dksX7_hasVolume_0 : cX7_hasVolume.data.toList.drop 0 = dktX7_hasVolume_0 := by decide +kernel
theorem dksX7_hasVolume_1 : cX7_hasVolume.data.toList.drop 24 = dktX7_hasVolume_1 := dk_seg dksX7_hasVolume_0 24 rfl rfl
theorem dksX7_hasVolume_2 : cX7_hasVolume.data.toList.drop 48 = dktX7_hasVolume_2 := dk_seg dksX7_hasVolume_1 24 rfl rfl
theorem dX7_hasVolume_0 : decode cX7_hasVolume 0 = .ok (.iconst 0, 1) := dk_3 (dk_at dksX7_hasVolume_0 0 rfl rfl)
theorem dX7_hasVolume_1 : decode cX7_hasVolume 1 = .ok (.istore_n 3, 1) := dk_62 (dk_at dksX7_hasVolume_0 1 rfl rfl)
theorem dX7_hasVolume_2 : decode cX7_hasVolume 2 = .ok (.iconst 1, 1) := dk_4 (dk_at dksX7_hasVolume_0 2 rfl rfl)
theorem dX7_hasVolume_3 : decode cX7_hasVolume 3 = .ok (.istore 4, 2) := dk_54 4 (dk_at dksX7_hasVolume_0 3 rfl rfl)
theorem dX7_hasVolume_5 : decode cX7_hasVolume 5 = .ok (.iload 4, 2) := dk_21 4 (dk_at dksX7_hasVolume_0 5 rfl rfl)
theorem dX7_hasVolume_7 : decode cX7_hasVolume 7 = .ok (.bipush 100, 2) := dk_16 100 (dk_at dksX7_hasVolume_0 7 rfl rfl)
theorem dX7_hasVolume_9 : decode cX7_hasVolume 9 = .ok (.if_icmp .ge 50, 3) := dk_162 0 50 (dk_at dksX7_hasVolume_0 9 rfl rfl)
theorem dX7_hasVolume_12 : decode cX7_hasVolume 12 = .ok (.iload_n 3, 1) := dk_29 (dk_at dksX7_hasVolume_0 12 rfl rfl)
theorem dX7_hasVolume_13 : decode cX7_hasVolume 13 = .ok (.ifCond .ne 34, 3) := dk_154 0 34 (dk_at dksX7_hasVolume_0 13 rfl rfl)
theorem dX7_hasVolume_16 : decode cX7_hasVolume 16 = .ok (.aload_n 0, 1) := dk_42 (dk_at dksX7_hasVolume_0 16 rfl rfl)
theorem dX7_hasVolume_17 : decode cX7_hasVolume 17 = .ok (.getfield 87, 3) := dk_180 0 87 (dk_at dksX7_hasVolume_0 17 rfl rfl)
theorem dX7_hasVolume_20 : decode cX7_hasVolume 20 = .ok (.bipush 100, 2) := dk_16 100 (dk_at dksX7_hasVolume_0 20 rfl rfl)
theorem dX7_hasVolume_22 : decode cX7_hasVolume 22 = .ok (.iload_n 1, 1) := dk_27 (dk_at dksX7_hasVolume_0 22 rfl rfl)
theorem dX7_hasVolume_23 : decode cX7_hasVolume 23 = .ok (.imul, 1) := dk_104 (dk_at dksX7_hasVolume_0 23 rfl rfl)
theorem dX7_hasVolume_24 : decode cX7_hasVolume 24 = .ok (.iload 4, 2) := dk_21 4 (dk_at dksX7_hasVolume_1 0 rfl rfl)
theorem dX7_hasVolume_26 : decode cX7_hasVolume 26 = .ok (.iadd, 1) := dk_96 (dk_at dksX7_hasVolume_1 2 rfl rfl)
theorem dX7_hasVolume_27 : decode cX7_hasVolume 27 = .ok (.iaload, 1) := dk_46 (dk_at dksX7_hasVolume_1 3 rfl rfl)
theorem dX7_hasVolume_28 : decode cX7_hasVolume 28 = .ok (.iconst (-1), 1) := dk_2 (dk_at dksX7_hasVolume_1 4 rfl rfl)
theorem dX7_hasVolume_29 : decode cX7_hasVolume 29 = .ok (.if_icmp .eq 22, 3) := dk_159 0 22 (dk_at dksX7_hasVolume_1 5 rfl rfl)
theorem dX7_hasVolume_32 : decode cX7_hasVolume 32 = .ok (.iload 4, 2) := dk_21 4 (dk_at dksX7_hasVolume_1 8 rfl rfl)
theorem dX7_hasVolume_34 : decode cX7_hasVolume 34 = .ok (.iload_n 2, 1) := dk_28 (dk_at dksX7_hasVolume_1 10 rfl rfl)
theorem dX7_hasVolume_35 : decode cX7_hasVolume 35 = .ok (.if_icmp .eq 12, 3) := dk_159 0 12 (dk_at dksX7_hasVolume_1 11 rfl rfl)
theorem dX7_hasVolume_38 : decode cX7_hasVolume 38 = .ok (.iload 4, 2) := dk_21 4 (dk_at dksX7_hasVolume_1 14 rfl rfl)
theorem dX7_hasVolume_40 : decode cX7_hasVolume 40 = .ok (.iload_n 2, 1) := dk_28 (dk_at dksX7_hasVolume_1 16 rfl rfl)
theorem dX7_hasVolume_41 : decode cX7_hasVolume 41 = .ok (.invokestatic 210, 3) := dk_184 0 210 (dk_at dksX7_hasVolume_1 17 rfl rfl)
theorem dX7_hasVolume_44 : decode cX7_hasVolume 44 = .ok (.ifCond .eq 7, 3) := dk_153 0 7 (dk_at dksX7_hasVolume_1 20 rfl rfl)
theorem dX7_hasVolume_47 : decode cX7_hasVolume 47 = .ok (.iconst 1, 1) := dk_4 (dk_at dksX7_hasVolume_1 23 rfl rfl)
theorem dX7_hasVolume_48 : decode cX7_hasVolume 48 = .ok (.goto 4, 3) := dk_167 0 4 (dk_at dksX7_hasVolume_2 0 rfl rfl)
theorem dX7_hasVolume_51 : decode cX7_hasVolume 51 = .ok (.iconst 0, 1) := dk_3 (dk_at dksX7_hasVolume_2 3 rfl rfl)
theorem dX7_hasVolume_52 : decode cX7_hasVolume 52 = .ok (.istore_n 3, 1) := dk_62 (dk_at dksX7_hasVolume_2 4 rfl rfl)
theorem dX7_hasVolume_53 : decode cX7_hasVolume 53 = .ok (.iinc 4 1, 3) := dk_132 4 1 (dk_at dksX7_hasVolume_2 5 rfl rfl)
theorem dX7_hasVolume_56 : decode cX7_hasVolume 56 = .ok (.goto (-51), 3) := dk_167 255 205 (dk_at dksX7_hasVolume_2 8 rfl rfl)
theorem dX7_hasVolume_59 : decode cX7_hasVolume 59 = .ok (.iload_n 3, 1) := dk_29 (dk_at dksX7_hasVolume_2 11 rfl rfl)
theorem dX7_hasVolume_60 : decode cX7_hasVolume 60 = .ok (.ireturn, 1) := dk_172 (dk_at dksX7_hasVolume_2 12 rfl rfl)
abbrev cX7_takes : ByteArray := prog_17_method_41_code
def yX7_takes : MethodName := ⟨RX7, "takes", "(II)V"⟩
def dkwX7_takes_6 : List UInt8 := [182, 1, 40, 177]
abbrev dktX7_takes_6 : List UInt8 := dkwX7_takes_6 ++ []
def dkwX7_takes_5 : List UInt8 := [27, 29, 79, 42, 42, 180, 0, 53, 27, 46, 27, 28, 182, 1, 3, 153, 0, 11, 42, 27, 28, 7, 3]
abbrev dktX7_takes_5 : List UInt8 := dkwX7_takes_5 ++ dktX7_takes_6
def dkwX7_takes_4 : List UInt8 := [104, 29, 96, 42, 180, 0, 75, 21, 5, 46, 79, 132, 3, 1, 132, 4, 1, 167, 255, 151, 42, 180, 0, 66]
abbrev dktX7_takes_4 : List UInt8 := dkwX7_takes_4 ++ dktX7_takes_5
def dkwX7_takes_3 : List UInt8 := [180, 0, 72, 16, 24, 27, 104, 29, 96, 42, 180, 0, 72, 21, 5, 46, 79, 42, 180, 0, 75, 16, 24, 27]
abbrev dktX7_takes_3 : List UInt8 := dkwX7_takes_3 ++ dktX7_takes_4
def dkwX7_takes_2 : List UInt8 := [154, 0, 60, 42, 180, 0, 69, 16, 24, 27, 104, 29, 96, 42, 180, 0, 69, 21, 5, 46, 79, 42]
abbrev dktX7_takes_2 : List UInt8 := dkwX7_takes_2 ++ dktX7_takes_3
def dkwX7_takes_1 : List UInt8 := [54, 5, 42, 180, 0, 69, 21, 5, 46, 28, 159, 0, 74, 42, 180, 0, 69, 21, 5, 46, 28, 184, 0, 210]
abbrev dktX7_takes_1 : List UInt8 := dkwX7_takes_1 ++ dktX7_takes_2
def dkwX7_takes_0 : List UInt8 := [3, 62, 3, 54, 4, 21, 4, 42, 180, 0, 66, 27, 46, 162, 0, 100, 16, 24, 27, 104, 21, 4, 96]
abbrev dktX7_takes_0 : List UInt8 := dkwX7_takes_0 ++ dktX7_takes_1
theorem dksX7_takes_0 : cX7_takes.data.toList.drop 0 = dktX7_takes_0 := by decide +kernel
theorem dksX7_takes_1 : cX7_takes.data.toList.drop 23 = dktX7_takes_1 := dk_seg dksX7_takes_0 23 rfl rfl
theorem dksX7_takes_2 : cX7_takes.data.toList.drop 47 = dktX7_takes_2 := dk_seg dksX7_takes_1 24 rfl rfl
theorem dksX7_takes_3 : cX7_takes.data.toList.drop 69 = dktX7_takes_3 := dk_seg dksX7_takes_2 22 rfl rfl
theorem dksX7_takes_4 : cX7_takes.data.toList.drop 93 = dktX7_takes_4 := dk_seg dksX7_takes_3 24 rfl rfl
theorem dksX7_takes_5 : cX7_takes.data.toList.drop 117 = dktX7_takes_5 := dk_seg dksX7_takes_4 24 rfl rfl
theorem dksX7_takes_6 : cX7_takes.data.toList.drop 140 = dktX7_takes_6 := dk_seg dksX7_takes_5 23 rfl rfl
theorem dX7_takes_0 : decode cX7_takes 0 = .ok (.iconst 0, 1) := dk_3 (dk_at dksX7_takes_0 0 rfl rfl)
theorem dX7_takes_1 : decode cX7_takes 1 = .ok (.istore_n 3, 1) := dk_62 (dk_at dksX7_takes_0 1 rfl rfl)
theorem dX7_takes_2 : decode cX7_takes 2 = .ok (.iconst 0, 1) := dk_3 (dk_at dksX7_takes_0 2 rfl rfl)
theorem dX7_takes_3 : decode cX7_takes 3 = .ok (.istore 4, 2) := dk_54 4 (dk_at dksX7_takes_0 3 rfl rfl)
theorem dX7_takes_5 : decode cX7_takes 5 = .ok (.iload 4, 2) := dk_21 4 (dk_at dksX7_takes_0 5 rfl rfl)
theorem dX7_takes_7 : decode cX7_takes 7 = .ok (.aload_n 0, 1) := dk_42 (dk_at dksX7_takes_0 7 rfl rfl)
theorem dX7_takes_8 : decode cX7_takes 8 = .ok (.getfield 66, 3) := dk_180 0 66 (dk_at dksX7_takes_0 8 rfl rfl)
theorem dX7_takes_11 : decode cX7_takes 11 = .ok (.iload_n 1, 1) := dk_27 (dk_at dksX7_takes_0 11 rfl rfl)
theorem dX7_takes_12 : decode cX7_takes 12 = .ok (.iaload, 1) := dk_46 (dk_at dksX7_takes_0 12 rfl rfl)
theorem dX7_takes_13 : decode cX7_takes 13 = .ok (.if_icmp .ge 100, 3) := dk_162 0 100 (dk_at dksX7_takes_0 13 rfl rfl)
theorem dX7_takes_16 : decode cX7_takes 16 = .ok (.bipush 24, 2) := dk_16 24 (dk_at dksX7_takes_0 16 rfl rfl)
theorem dX7_takes_18 : decode cX7_takes 18 = .ok (.iload_n 1, 1) := dk_27 (dk_at dksX7_takes_0 18 rfl rfl)
theorem dX7_takes_19 : decode cX7_takes 19 = .ok (.imul, 1) := dk_104 (dk_at dksX7_takes_0 19 rfl rfl)
theorem dX7_takes_20 : decode cX7_takes 20 = .ok (.iload 4, 2) := dk_21 4 (dk_at dksX7_takes_0 20 rfl rfl)
theorem dX7_takes_22 : decode cX7_takes 22 = .ok (.iadd, 1) := dk_96 (dk_at dksX7_takes_0 22 rfl rfl)
theorem dX7_takes_23 : decode cX7_takes 23 = .ok (.istore 5, 2) := dk_54 5 (dk_at dksX7_takes_1 0 rfl rfl)
theorem dX7_takes_25 : decode cX7_takes 25 = .ok (.aload_n 0, 1) := dk_42 (dk_at dksX7_takes_1 2 rfl rfl)
theorem dX7_takes_26 : decode cX7_takes 26 = .ok (.getfield 69, 3) := dk_180 0 69 (dk_at dksX7_takes_1 3 rfl rfl)
theorem dX7_takes_29 : decode cX7_takes 29 = .ok (.iload 5, 2) := dk_21 5 (dk_at dksX7_takes_1 6 rfl rfl)
theorem dX7_takes_31 : decode cX7_takes 31 = .ok (.iaload, 1) := dk_46 (dk_at dksX7_takes_1 8 rfl rfl)
theorem dX7_takes_32 : decode cX7_takes 32 = .ok (.iload_n 2, 1) := dk_28 (dk_at dksX7_takes_1 9 rfl rfl)
theorem dX7_takes_33 : decode cX7_takes 33 = .ok (.if_icmp .eq 74, 3) := dk_159 0 74 (dk_at dksX7_takes_1 10 rfl rfl)
theorem dX7_takes_36 : decode cX7_takes 36 = .ok (.aload_n 0, 1) := dk_42 (dk_at dksX7_takes_1 13 rfl rfl)
theorem dX7_takes_37 : decode cX7_takes 37 = .ok (.getfield 69, 3) := dk_180 0 69 (dk_at dksX7_takes_1 14 rfl rfl)
theorem dX7_takes_40 : decode cX7_takes 40 = .ok (.iload 5, 2) := dk_21 5 (dk_at dksX7_takes_1 17 rfl rfl)
theorem dX7_takes_42 : decode cX7_takes 42 = .ok (.iaload, 1) := dk_46 (dk_at dksX7_takes_1 19 rfl rfl)
theorem dX7_takes_43 : decode cX7_takes 43 = .ok (.iload_n 2, 1) := dk_28 (dk_at dksX7_takes_1 20 rfl rfl)
theorem dX7_takes_44 : decode cX7_takes 44 = .ok (.invokestatic 210, 3) := dk_184 0 210 (dk_at dksX7_takes_1 21 rfl rfl)
theorem dX7_takes_47 : decode cX7_takes 47 = .ok (.ifCond .ne 60, 3) := dk_154 0 60 (dk_at dksX7_takes_2 0 rfl rfl)
theorem dX7_takes_50 : decode cX7_takes 50 = .ok (.aload_n 0, 1) := dk_42 (dk_at dksX7_takes_2 3 rfl rfl)
theorem dX7_takes_51 : decode cX7_takes 51 = .ok (.getfield 69, 3) := dk_180 0 69 (dk_at dksX7_takes_2 4 rfl rfl)
theorem dX7_takes_54 : decode cX7_takes 54 = .ok (.bipush 24, 2) := dk_16 24 (dk_at dksX7_takes_2 7 rfl rfl)
theorem dX7_takes_56 : decode cX7_takes 56 = .ok (.iload_n 1, 1) := dk_27 (dk_at dksX7_takes_2 9 rfl rfl)
theorem dX7_takes_57 : decode cX7_takes 57 = .ok (.imul, 1) := dk_104 (dk_at dksX7_takes_2 10 rfl rfl)
theorem dX7_takes_58 : decode cX7_takes 58 = .ok (.iload_n 3, 1) := dk_29 (dk_at dksX7_takes_2 11 rfl rfl)
theorem dX7_takes_59 : decode cX7_takes 59 = .ok (.iadd, 1) := dk_96 (dk_at dksX7_takes_2 12 rfl rfl)
theorem dX7_takes_60 : decode cX7_takes 60 = .ok (.aload_n 0, 1) := dk_42 (dk_at dksX7_takes_2 13 rfl rfl)
theorem dX7_takes_61 : decode cX7_takes 61 = .ok (.getfield 69, 3) := dk_180 0 69 (dk_at dksX7_takes_2 14 rfl rfl)
theorem dX7_takes_64 : decode cX7_takes 64 = .ok (.iload 5, 2) := dk_21 5 (dk_at dksX7_takes_2 17 rfl rfl)
theorem dX7_takes_66 : decode cX7_takes 66 = .ok (.iaload, 1) := dk_46 (dk_at dksX7_takes_2 19 rfl rfl)
theorem dX7_takes_67 : decode cX7_takes 67 = .ok (.iastore, 1) := dk_79 (dk_at dksX7_takes_2 20 rfl rfl)
theorem dX7_takes_68 : decode cX7_takes 68 = .ok (.aload_n 0, 1) := dk_42 (dk_at dksX7_takes_2 21 rfl rfl)
theorem dX7_takes_69 : decode cX7_takes 69 = .ok (.getfield 72, 3) := dk_180 0 72 (dk_at dksX7_takes_3 0 rfl rfl)
theorem dX7_takes_72 : decode cX7_takes 72 = .ok (.bipush 24, 2) := dk_16 24 (dk_at dksX7_takes_3 3 rfl rfl)
theorem dX7_takes_74 : decode cX7_takes 74 = .ok (.iload_n 1, 1) := dk_27 (dk_at dksX7_takes_3 5 rfl rfl)
theorem dX7_takes_75 : decode cX7_takes 75 = .ok (.imul, 1) := dk_104 (dk_at dksX7_takes_3 6 rfl rfl)
theorem dX7_takes_76 : decode cX7_takes 76 = .ok (.iload_n 3, 1) := dk_29 (dk_at dksX7_takes_3 7 rfl rfl)
theorem dX7_takes_77 : decode cX7_takes 77 = .ok (.iadd, 1) := dk_96 (dk_at dksX7_takes_3 8 rfl rfl)
theorem dX7_takes_78 : decode cX7_takes 78 = .ok (.aload_n 0, 1) := dk_42 (dk_at dksX7_takes_3 9 rfl rfl)
theorem dX7_takes_79 : decode cX7_takes 79 = .ok (.getfield 72, 3) := dk_180 0 72 (dk_at dksX7_takes_3 10 rfl rfl)
theorem dX7_takes_82 : decode cX7_takes 82 = .ok (.iload 5, 2) := dk_21 5 (dk_at dksX7_takes_3 13 rfl rfl)
theorem dX7_takes_84 : decode cX7_takes 84 = .ok (.iaload, 1) := dk_46 (dk_at dksX7_takes_3 15 rfl rfl)
theorem dX7_takes_85 : decode cX7_takes 85 = .ok (.iastore, 1) := dk_79 (dk_at dksX7_takes_3 16 rfl rfl)
theorem dX7_takes_86 : decode cX7_takes 86 = .ok (.aload_n 0, 1) := dk_42 (dk_at dksX7_takes_3 17 rfl rfl)
theorem dX7_takes_87 : decode cX7_takes 87 = .ok (.getfield 75, 3) := dk_180 0 75 (dk_at dksX7_takes_3 18 rfl rfl)
theorem dX7_takes_90 : decode cX7_takes 90 = .ok (.bipush 24, 2) := dk_16 24 (dk_at dksX7_takes_3 21 rfl rfl)
theorem dX7_takes_92 : decode cX7_takes 92 = .ok (.iload_n 1, 1) := dk_27 (dk_at dksX7_takes_3 23 rfl rfl)
theorem dX7_takes_93 : decode cX7_takes 93 = .ok (.imul, 1) := dk_104 (dk_at dksX7_takes_4 0 rfl rfl)
theorem dX7_takes_94 : decode cX7_takes 94 = .ok (.iload_n 3, 1) := dk_29 (dk_at dksX7_takes_4 1 rfl rfl)
theorem dX7_takes_95 : decode cX7_takes 95 = .ok (.iadd, 1) := dk_96 (dk_at dksX7_takes_4 2 rfl rfl)
theorem dX7_takes_96 : decode cX7_takes 96 = .ok (.aload_n 0, 1) := dk_42 (dk_at dksX7_takes_4 3 rfl rfl)
theorem dX7_takes_97 : decode cX7_takes 97 = .ok (.getfield 75, 3) := dk_180 0 75 (dk_at dksX7_takes_4 4 rfl rfl)
theorem dX7_takes_100 : decode cX7_takes 100 = .ok (.iload 5, 2) := dk_21 5 (dk_at dksX7_takes_4 7 rfl rfl)
theorem dX7_takes_102 : decode cX7_takes 102 = .ok (.iaload, 1) := dk_46 (dk_at dksX7_takes_4 9 rfl rfl)
theorem dX7_takes_103 : decode cX7_takes 103 = .ok (.iastore, 1) := dk_79 (dk_at dksX7_takes_4 10 rfl rfl)
theorem dX7_takes_104 : decode cX7_takes 104 = .ok (.iinc 3 1, 3) := dk_132 3 1 (dk_at dksX7_takes_4 11 rfl rfl)
theorem dX7_takes_107 : decode cX7_takes 107 = .ok (.iinc 4 1, 3) := dk_132 4 1 (dk_at dksX7_takes_4 14 rfl rfl)
theorem dX7_takes_110 : decode cX7_takes 110 = .ok (.goto (-105), 3) := dk_167 255 151 (dk_at dksX7_takes_4 17 rfl rfl)
theorem dX7_takes_113 : decode cX7_takes 113 = .ok (.aload_n 0, 1) := dk_42 (dk_at dksX7_takes_4 20 rfl rfl)
theorem dX7_takes_114 : decode cX7_takes 114 = .ok (.getfield 66, 3) := dk_180 0 66 (dk_at dksX7_takes_4 21 rfl rfl)
theorem dX7_takes_117 : decode cX7_takes 117 = .ok (.iload_n 1, 1) := dk_27 (dk_at dksX7_takes_5 0 rfl rfl)
theorem dX7_takes_118 : decode cX7_takes 118 = .ok (.iload_n 3, 1) := dk_29 (dk_at dksX7_takes_5 1 rfl rfl)
theorem dX7_takes_119 : decode cX7_takes 119 = .ok (.iastore, 1) := dk_79 (dk_at dksX7_takes_5 2 rfl rfl)
theorem dX7_takes_120 : decode cX7_takes 120 = .ok (.aload_n 0, 1) := dk_42 (dk_at dksX7_takes_5 3 rfl rfl)
theorem dX7_takes_121 : decode cX7_takes 121 = .ok (.aload_n 0, 1) := dk_42 (dk_at dksX7_takes_5 4 rfl rfl)
theorem dX7_takes_122 : decode cX7_takes 122 = .ok (.getfield 53, 3) := dk_180 0 53 (dk_at dksX7_takes_5 5 rfl rfl)
theorem dX7_takes_125 : decode cX7_takes 125 = .ok (.iload_n 1, 1) := dk_27 (dk_at dksX7_takes_5 8 rfl rfl)
theorem dX7_takes_126 : decode cX7_takes 126 = .ok (.iaload, 1) := dk_46 (dk_at dksX7_takes_5 9 rfl rfl)
theorem dX7_takes_127 : decode cX7_takes 127 = .ok (.iload_n 1, 1) := dk_27 (dk_at dksX7_takes_5 10 rfl rfl)
theorem dX7_takes_128 : decode cX7_takes 128 = .ok (.iload_n 2, 1) := dk_28 (dk_at dksX7_takes_5 11 rfl rfl)
theorem dX7_takes_129 : decode cX7_takes 129 = .ok (.invokevirtual 259, 3) := dk_182 1 3 (dk_at dksX7_takes_5 12 rfl rfl)
theorem dX7_takes_132 : decode cX7_takes 132 = .ok (.ifCond .eq 11, 3) := dk_153 0 11 (dk_at dksX7_takes_5 15 rfl rfl)
theorem dX7_takes_135 : decode cX7_takes 135 = .ok (.aload_n 0, 1) := dk_42 (dk_at dksX7_takes_5 18 rfl rfl)
theorem dX7_takes_136 : decode cX7_takes 136 = .ok (.iload_n 1, 1) := dk_27 (dk_at dksX7_takes_5 19 rfl rfl)
theorem dX7_takes_137 : decode cX7_takes 137 = .ok (.iload_n 2, 1) := dk_28 (dk_at dksX7_takes_5 20 rfl rfl)
theorem dX7_takes_138 : decode cX7_takes 138 = .ok (.iconst 4, 1) := dk_7 (dk_at dksX7_takes_5 21 rfl rfl)
theorem dX7_takes_139 : decode cX7_takes 139 = .ok (.iconst 0, 1) := dk_3 (dk_at dksX7_takes_5 22 rfl rfl)
theorem dX7_takes_140 : decode cX7_takes 140 = .ok (.invokevirtual 296, 3) := dk_182 1 40 (dk_at dksX7_takes_6 0 rfl rfl)
theorem dX7_takes_143 : decode cX7_takes 143 = .ok (.return_, 1) := dk_177 (dk_at dksX7_takes_6 3 rfl rfl)
abbrev cX7_move : ByteArray := prog_17_method_49_code
def yX7_move : MethodName := ⟨RX7, "move", "(III)V"⟩
def dkwX7_move_9 : List UInt8 := [167, 0, 4, 6, 181, 0, 189, 177]
abbrev dktX7_move_9 : List UInt8 := dkwX7_move_9 ++ []
def dkwX7_move_8 : List UInt8 := [182, 1, 40, 42, 21, 4, 28, 182, 1, 56, 42, 42, 21, 4, 21, 7, 182, 1, 50, 153, 0, 7, 3]
abbrev dktX7_move_8 : List UInt8 := dkwX7_move_8 ++ dktX7_move_9
def dkwX7_move_7 : List UInt8 := [153, 0, 7, 3, 167, 0, 4, 6, 181, 0, 189, 177, 42, 21, 4, 29, 4, 21, 5, 16, 10, 100]
abbrev dktX7_move_7 : List UInt8 := dkwX7_move_7 ++ dktX7_move_8
def dkwX7_move_6 : List UInt8 := [177, 42, 21, 4, 182, 1, 47, 54, 7, 21, 5, 5, 160, 0, 24, 42, 42, 21, 4, 28, 29, 182, 1, 63]
abbrev dktX7_move_6 : List UInt8 := dkwX7_move_6 ++ dktX7_move_7
def dkwX7_move_5 : List UInt8 := [21, 4, 29, 182, 1, 37, 154, 0, 13, 42, 21, 4, 29, 182, 1, 44, 154, 0, 9, 42, 6, 181, 0, 189]
abbrev dktX7_move_5 : List UInt8 := dkwX7_move_5 ++ dktX7_move_6
def dkwX7_move_4 : List UInt8 := [182, 1, 53, 154, 0, 7, 4, 167, 0, 4, 3, 54, 6, 21, 6, 153, 0, 28, 21, 5, 153, 0, 23, 42]
abbrev dktX7_move_4 : List UInt8 := dkwX7_move_4 ++ dktX7_move_5
def dkwX7_move_3 : List UInt8 := [21, 4, 29, 182, 1, 34, 154, 0, 27, 42, 21, 4, 28, 182, 1, 53, 154, 0, 17, 42, 21, 4, 29]
abbrev dktX7_move_3 : List UInt8 := dkwX7_move_3 ++ dktX7_move_4
def dkwX7_move_2 : List UInt8 := [158, 0, 4, 177, 42, 21, 4, 28, 182, 1, 37, 54, 5, 42, 21, 4, 28, 182, 1, 34, 154, 0, 37, 42]
abbrev dktX7_move_2 : List UInt8 := dkwX7_move_2 ++ dktX7_move_3
def dkwX7_move_1 : List UInt8 := [153, 0, 10, 29, 184, 0, 221, 154, 0, 7, 5, 167, 0, 4, 3, 181, 0, 189, 42, 180, 0, 189]
abbrev dktX7_move_1 : List UInt8 := dkwX7_move_1 ++ dktX7_move_2
def dkwX7_move_0 : List UInt8 := [42, 27, 182, 1, 24, 54, 4, 42, 21, 4, 2, 160, 0, 7, 4, 167, 0, 22, 28, 184, 0, 221]
abbrev dktX7_move_0 : List UInt8 := dkwX7_move_0 ++ dktX7_move_1
theorem dksX7_move_0 : cX7_move.data.toList.drop 0 = dktX7_move_0 := by decide +kernel
theorem dksX7_move_1 : cX7_move.data.toList.drop 22 = dktX7_move_1 := dk_seg dksX7_move_0 22 rfl rfl
theorem dksX7_move_2 : cX7_move.data.toList.drop 44 = dktX7_move_2 := dk_seg dksX7_move_1 22 rfl rfl
theorem dksX7_move_3 : cX7_move.data.toList.drop 68 = dktX7_move_3 := dk_seg dksX7_move_2 24 rfl rfl
theorem dksX7_move_4 : cX7_move.data.toList.drop 91 = dktX7_move_4 := dk_seg dksX7_move_3 23 rfl rfl
theorem dksX7_move_5 : cX7_move.data.toList.drop 115 = dktX7_move_5 := dk_seg dksX7_move_4 24 rfl rfl
theorem dksX7_move_6 : cX7_move.data.toList.drop 139 = dktX7_move_6 := dk_seg dksX7_move_5 24 rfl rfl
theorem dksX7_move_7 : cX7_move.data.toList.drop 163 = dktX7_move_7 := dk_seg dksX7_move_6 24 rfl rfl
theorem dksX7_move_8 : cX7_move.data.toList.drop 185 = dktX7_move_8 := dk_seg dksX7_move_7 22 rfl rfl
theorem dksX7_move_9 : cX7_move.data.toList.drop 208 = dktX7_move_9 := dk_seg dksX7_move_8 23 rfl rfl
theorem dX7_move_0 : decode cX7_move 0 = .ok (.aload_n 0, 1) := dk_42 (dk_at dksX7_move_0 0 rfl rfl)
theorem dX7_move_1 : decode cX7_move 1 = .ok (.iload_n 1, 1) := dk_27 (dk_at dksX7_move_0 1 rfl rfl)
theorem dX7_move_2 : decode cX7_move 2 = .ok (.invokevirtual 280, 3) := dk_182 1 24 (dk_at dksX7_move_0 2 rfl rfl)
theorem dX7_move_5 : decode cX7_move 5 = .ok (.istore 4, 2) := dk_54 4 (dk_at dksX7_move_0 5 rfl rfl)
theorem dX7_move_7 : decode cX7_move 7 = .ok (.aload_n 0, 1) := dk_42 (dk_at dksX7_move_0 7 rfl rfl)
theorem dX7_move_8 : decode cX7_move 8 = .ok (.iload 4, 2) := dk_21 4 (dk_at dksX7_move_0 8 rfl rfl)
theorem dX7_move_10 : decode cX7_move 10 = .ok (.iconst (-1), 1) := dk_2 (dk_at dksX7_move_0 10 rfl rfl)
theorem dX7_move_11 : decode cX7_move 11 = .ok (.if_icmp .ne 7, 3) := dk_160 0 7 (dk_at dksX7_move_0 11 rfl rfl)
theorem dX7_move_14 : decode cX7_move 14 = .ok (.iconst 1, 1) := dk_4 (dk_at dksX7_move_0 14 rfl rfl)
theorem dX7_move_15 : decode cX7_move 15 = .ok (.goto 22, 3) := dk_167 0 22 (dk_at dksX7_move_0 15 rfl rfl)
theorem dX7_move_18 : decode cX7_move 18 = .ok (.iload_n 2, 1) := dk_28 (dk_at dksX7_move_0 18 rfl rfl)
theorem dX7_move_19 : decode cX7_move 19 = .ok (.invokestatic 221, 3) := dk_184 0 221 (dk_at dksX7_move_0 19 rfl rfl)
theorem dX7_move_22 : decode cX7_move 22 = .ok (.ifCond .eq 10, 3) := dk_153 0 10 (dk_at dksX7_move_1 0 rfl rfl)
theorem dX7_move_25 : decode cX7_move 25 = .ok (.iload_n 3, 1) := dk_29 (dk_at dksX7_move_1 3 rfl rfl)
theorem dX7_move_26 : decode cX7_move 26 = .ok (.invokestatic 221, 3) := dk_184 0 221 (dk_at dksX7_move_1 4 rfl rfl)
theorem dX7_move_29 : decode cX7_move 29 = .ok (.ifCond .ne 7, 3) := dk_154 0 7 (dk_at dksX7_move_1 7 rfl rfl)
theorem dX7_move_32 : decode cX7_move 32 = .ok (.iconst 2, 1) := dk_5 (dk_at dksX7_move_1 10 rfl rfl)
theorem dX7_move_33 : decode cX7_move 33 = .ok (.goto 4, 3) := dk_167 0 4 (dk_at dksX7_move_1 11 rfl rfl)
theorem dX7_move_36 : decode cX7_move 36 = .ok (.iconst 0, 1) := dk_3 (dk_at dksX7_move_1 14 rfl rfl)
theorem dX7_move_37 : decode cX7_move 37 = .ok (.putfield 189, 3) := dk_181 0 189 (dk_at dksX7_move_1 15 rfl rfl)
theorem dX7_move_40 : decode cX7_move 40 = .ok (.aload_n 0, 1) := dk_42 (dk_at dksX7_move_1 18 rfl rfl)
theorem dX7_move_41 : decode cX7_move 41 = .ok (.getfield 189, 3) := dk_180 0 189 (dk_at dksX7_move_1 19 rfl rfl)
theorem dX7_move_44 : decode cX7_move 44 = .ok (.ifCond .le 4, 3) := dk_158 0 4 (dk_at dksX7_move_2 0 rfl rfl)
theorem dX7_move_47 : decode cX7_move 47 = .ok (.return_, 1) := dk_177 (dk_at dksX7_move_2 3 rfl rfl)
theorem dX7_move_48 : decode cX7_move 48 = .ok (.aload_n 0, 1) := dk_42 (dk_at dksX7_move_2 4 rfl rfl)
theorem dX7_move_49 : decode cX7_move 49 = .ok (.iload 4, 2) := dk_21 4 (dk_at dksX7_move_2 5 rfl rfl)
theorem dX7_move_51 : decode cX7_move 51 = .ok (.iload_n 2, 1) := dk_28 (dk_at dksX7_move_2 7 rfl rfl)
theorem dX7_move_52 : decode cX7_move 52 = .ok (.invokevirtual 293, 3) := dk_182 1 37 (dk_at dksX7_move_2 8 rfl rfl)
theorem dX7_move_55 : decode cX7_move 55 = .ok (.istore 5, 2) := dk_54 5 (dk_at dksX7_move_2 11 rfl rfl)
theorem dX7_move_57 : decode cX7_move 57 = .ok (.aload_n 0, 1) := dk_42 (dk_at dksX7_move_2 13 rfl rfl)
theorem dX7_move_58 : decode cX7_move 58 = .ok (.iload 4, 2) := dk_21 4 (dk_at dksX7_move_2 14 rfl rfl)
theorem dX7_move_60 : decode cX7_move 60 = .ok (.iload_n 2, 1) := dk_28 (dk_at dksX7_move_2 16 rfl rfl)
theorem dX7_move_61 : decode cX7_move 61 = .ok (.invokevirtual 290, 3) := dk_182 1 34 (dk_at dksX7_move_2 17 rfl rfl)
theorem dX7_move_64 : decode cX7_move 64 = .ok (.ifCond .ne 37, 3) := dk_154 0 37 (dk_at dksX7_move_2 20 rfl rfl)
theorem dX7_move_67 : decode cX7_move 67 = .ok (.aload_n 0, 1) := dk_42 (dk_at dksX7_move_2 23 rfl rfl)
theorem dX7_move_68 : decode cX7_move 68 = .ok (.iload 4, 2) := dk_21 4 (dk_at dksX7_move_3 0 rfl rfl)
theorem dX7_move_70 : decode cX7_move 70 = .ok (.iload_n 3, 1) := dk_29 (dk_at dksX7_move_3 2 rfl rfl)
theorem dX7_move_71 : decode cX7_move 71 = .ok (.invokevirtual 290, 3) := dk_182 1 34 (dk_at dksX7_move_3 3 rfl rfl)
theorem dX7_move_74 : decode cX7_move 74 = .ok (.ifCond .ne 27, 3) := dk_154 0 27 (dk_at dksX7_move_3 6 rfl rfl)
theorem dX7_move_77 : decode cX7_move 77 = .ok (.aload_n 0, 1) := dk_42 (dk_at dksX7_move_3 9 rfl rfl)
theorem dX7_move_78 : decode cX7_move 78 = .ok (.iload 4, 2) := dk_21 4 (dk_at dksX7_move_3 10 rfl rfl)
theorem dX7_move_80 : decode cX7_move 80 = .ok (.iload_n 2, 1) := dk_28 (dk_at dksX7_move_3 12 rfl rfl)
theorem dX7_move_81 : decode cX7_move 81 = .ok (.invokevirtual 309, 3) := dk_182 1 53 (dk_at dksX7_move_3 13 rfl rfl)
theorem dX7_move_84 : decode cX7_move 84 = .ok (.ifCond .ne 17, 3) := dk_154 0 17 (dk_at dksX7_move_3 16 rfl rfl)
theorem dX7_move_87 : decode cX7_move 87 = .ok (.aload_n 0, 1) := dk_42 (dk_at dksX7_move_3 19 rfl rfl)
theorem dX7_move_88 : decode cX7_move 88 = .ok (.iload 4, 2) := dk_21 4 (dk_at dksX7_move_3 20 rfl rfl)
theorem dX7_move_90 : decode cX7_move 90 = .ok (.iload_n 3, 1) := dk_29 (dk_at dksX7_move_3 22 rfl rfl)
theorem dX7_move_91 : decode cX7_move 91 = .ok (.invokevirtual 309, 3) := dk_182 1 53 (dk_at dksX7_move_4 0 rfl rfl)
theorem dX7_move_94 : decode cX7_move 94 = .ok (.ifCond .ne 7, 3) := dk_154 0 7 (dk_at dksX7_move_4 3 rfl rfl)
theorem dX7_move_97 : decode cX7_move 97 = .ok (.iconst 1, 1) := dk_4 (dk_at dksX7_move_4 6 rfl rfl)
theorem dX7_move_98 : decode cX7_move 98 = .ok (.goto 4, 3) := dk_167 0 4 (dk_at dksX7_move_4 7 rfl rfl)
theorem dX7_move_101 : decode cX7_move 101 = .ok (.iconst 0, 1) := dk_3 (dk_at dksX7_move_4 10 rfl rfl)
theorem dX7_move_102 : decode cX7_move 102 = .ok (.istore 6, 2) := dk_54 6 (dk_at dksX7_move_4 11 rfl rfl)
theorem dX7_move_104 : decode cX7_move 104 = .ok (.iload 6, 2) := dk_21 6 (dk_at dksX7_move_4 13 rfl rfl)
theorem dX7_move_106 : decode cX7_move 106 = .ok (.ifCond .eq 28, 3) := dk_153 0 28 (dk_at dksX7_move_4 15 rfl rfl)
theorem dX7_move_109 : decode cX7_move 109 = .ok (.iload 5, 2) := dk_21 5 (dk_at dksX7_move_4 18 rfl rfl)
theorem dX7_move_111 : decode cX7_move 111 = .ok (.ifCond .eq 23, 3) := dk_153 0 23 (dk_at dksX7_move_4 20 rfl rfl)
theorem dX7_move_114 : decode cX7_move 114 = .ok (.aload_n 0, 1) := dk_42 (dk_at dksX7_move_4 23 rfl rfl)
theorem dX7_move_115 : decode cX7_move 115 = .ok (.iload 4, 2) := dk_21 4 (dk_at dksX7_move_5 0 rfl rfl)
theorem dX7_move_117 : decode cX7_move 117 = .ok (.iload_n 3, 1) := dk_29 (dk_at dksX7_move_5 2 rfl rfl)
theorem dX7_move_118 : decode cX7_move 118 = .ok (.invokevirtual 293, 3) := dk_182 1 37 (dk_at dksX7_move_5 3 rfl rfl)
theorem dX7_move_121 : decode cX7_move 121 = .ok (.ifCond .ne 13, 3) := dk_154 0 13 (dk_at dksX7_move_5 6 rfl rfl)
theorem dX7_move_124 : decode cX7_move 124 = .ok (.aload_n 0, 1) := dk_42 (dk_at dksX7_move_5 9 rfl rfl)
theorem dX7_move_125 : decode cX7_move 125 = .ok (.iload 4, 2) := dk_21 4 (dk_at dksX7_move_5 10 rfl rfl)
theorem dX7_move_127 : decode cX7_move 127 = .ok (.iload_n 3, 1) := dk_29 (dk_at dksX7_move_5 12 rfl rfl)
theorem dX7_move_128 : decode cX7_move 128 = .ok (.invokevirtual 300, 3) := dk_182 1 44 (dk_at dksX7_move_5 13 rfl rfl)
theorem dX7_move_131 : decode cX7_move 131 = .ok (.ifCond .ne 9, 3) := dk_154 0 9 (dk_at dksX7_move_5 16 rfl rfl)
theorem dX7_move_134 : decode cX7_move 134 = .ok (.aload_n 0, 1) := dk_42 (dk_at dksX7_move_5 19 rfl rfl)
theorem dX7_move_135 : decode cX7_move 135 = .ok (.iconst 3, 1) := dk_6 (dk_at dksX7_move_5 20 rfl rfl)
theorem dX7_move_136 : decode cX7_move 136 = .ok (.putfield 189, 3) := dk_181 0 189 (dk_at dksX7_move_5 21 rfl rfl)
theorem dX7_move_139 : decode cX7_move 139 = .ok (.return_, 1) := dk_177 (dk_at dksX7_move_6 0 rfl rfl)
theorem dX7_move_140 : decode cX7_move 140 = .ok (.aload_n 0, 1) := dk_42 (dk_at dksX7_move_6 1 rfl rfl)
theorem dX7_move_141 : decode cX7_move 141 = .ok (.iload 4, 2) := dk_21 4 (dk_at dksX7_move_6 2 rfl rfl)
theorem dX7_move_143 : decode cX7_move 143 = .ok (.invokevirtual 303, 3) := dk_182 1 47 (dk_at dksX7_move_6 4 rfl rfl)
theorem dX7_move_146 : decode cX7_move 146 = .ok (.istore 7, 2) := dk_54 7 (dk_at dksX7_move_6 7 rfl rfl)
theorem dX7_move_148 : decode cX7_move 148 = .ok (.iload 5, 2) := dk_21 5 (dk_at dksX7_move_6 9 rfl rfl)
theorem dX7_move_150 : decode cX7_move 150 = .ok (.iconst 2, 1) := dk_5 (dk_at dksX7_move_6 11 rfl rfl)
theorem dX7_move_151 : decode cX7_move 151 = .ok (.if_icmp .ne 24, 3) := dk_160 0 24 (dk_at dksX7_move_6 12 rfl rfl)
theorem dX7_move_154 : decode cX7_move 154 = .ok (.aload_n 0, 1) := dk_42 (dk_at dksX7_move_6 15 rfl rfl)
theorem dX7_move_155 : decode cX7_move 155 = .ok (.aload_n 0, 1) := dk_42 (dk_at dksX7_move_6 16 rfl rfl)
theorem dX7_move_156 : decode cX7_move 156 = .ok (.iload 4, 2) := dk_21 4 (dk_at dksX7_move_6 17 rfl rfl)
theorem dX7_move_158 : decode cX7_move 158 = .ok (.iload_n 2, 1) := dk_28 (dk_at dksX7_move_6 19 rfl rfl)
theorem dX7_move_159 : decode cX7_move 159 = .ok (.iload_n 3, 1) := dk_29 (dk_at dksX7_move_6 20 rfl rfl)
theorem dX7_move_160 : decode cX7_move 160 = .ok (.invokevirtual 319, 3) := dk_182 1 63 (dk_at dksX7_move_6 21 rfl rfl)
theorem dX7_move_163 : decode cX7_move 163 = .ok (.ifCond .eq 7, 3) := dk_153 0 7 (dk_at dksX7_move_7 0 rfl rfl)
theorem dX7_move_166 : decode cX7_move 166 = .ok (.iconst 0, 1) := dk_3 (dk_at dksX7_move_7 3 rfl rfl)
theorem dX7_move_167 : decode cX7_move 167 = .ok (.goto 4, 3) := dk_167 0 4 (dk_at dksX7_move_7 4 rfl rfl)
theorem dX7_move_170 : decode cX7_move 170 = .ok (.iconst 3, 1) := dk_6 (dk_at dksX7_move_7 7 rfl rfl)
theorem dX7_move_171 : decode cX7_move 171 = .ok (.putfield 189, 3) := dk_181 0 189 (dk_at dksX7_move_7 8 rfl rfl)
theorem dX7_move_174 : decode cX7_move 174 = .ok (.return_, 1) := dk_177 (dk_at dksX7_move_7 11 rfl rfl)
theorem dX7_move_175 : decode cX7_move 175 = .ok (.aload_n 0, 1) := dk_42 (dk_at dksX7_move_7 12 rfl rfl)
theorem dX7_move_176 : decode cX7_move 176 = .ok (.iload 4, 2) := dk_21 4 (dk_at dksX7_move_7 13 rfl rfl)
theorem dX7_move_178 : decode cX7_move 178 = .ok (.iload_n 3, 1) := dk_29 (dk_at dksX7_move_7 15 rfl rfl)
theorem dX7_move_179 : decode cX7_move 179 = .ok (.iconst 1, 1) := dk_4 (dk_at dksX7_move_7 16 rfl rfl)
theorem dX7_move_180 : decode cX7_move 180 = .ok (.iload 5, 2) := dk_21 5 (dk_at dksX7_move_7 17 rfl rfl)
theorem dX7_move_182 : decode cX7_move 182 = .ok (.bipush 10, 2) := dk_16 10 (dk_at dksX7_move_7 19 rfl rfl)
theorem dX7_move_184 : decode cX7_move 184 = .ok (.isub, 1) := dk_100 (dk_at dksX7_move_7 21 rfl rfl)
theorem dX7_move_185 : decode cX7_move 185 = .ok (.invokevirtual 296, 3) := dk_182 1 40 (dk_at dksX7_move_8 0 rfl rfl)
theorem dX7_move_188 : decode cX7_move 188 = .ok (.aload_n 0, 1) := dk_42 (dk_at dksX7_move_8 3 rfl rfl)
theorem dX7_move_189 : decode cX7_move 189 = .ok (.iload 4, 2) := dk_21 4 (dk_at dksX7_move_8 4 rfl rfl)
theorem dX7_move_191 : decode cX7_move 191 = .ok (.iload_n 2, 1) := dk_28 (dk_at dksX7_move_8 6 rfl rfl)
theorem dX7_move_192 : decode cX7_move 192 = .ok (.invokevirtual 312, 3) := dk_182 1 56 (dk_at dksX7_move_8 7 rfl rfl)
theorem dX7_move_195 : decode cX7_move 195 = .ok (.aload_n 0, 1) := dk_42 (dk_at dksX7_move_8 10 rfl rfl)
theorem dX7_move_196 : decode cX7_move 196 = .ok (.aload_n 0, 1) := dk_42 (dk_at dksX7_move_8 11 rfl rfl)
theorem dX7_move_197 : decode cX7_move 197 = .ok (.iload 4, 2) := dk_21 4 (dk_at dksX7_move_8 12 rfl rfl)
theorem dX7_move_199 : decode cX7_move 199 = .ok (.iload 7, 2) := dk_21 7 (dk_at dksX7_move_8 14 rfl rfl)
theorem dX7_move_201 : decode cX7_move 201 = .ok (.invokevirtual 306, 3) := dk_182 1 50 (dk_at dksX7_move_8 16 rfl rfl)
theorem dX7_move_204 : decode cX7_move 204 = .ok (.ifCond .eq 7, 3) := dk_153 0 7 (dk_at dksX7_move_8 19 rfl rfl)
theorem dX7_move_207 : decode cX7_move 207 = .ok (.iconst 0, 1) := dk_3 (dk_at dksX7_move_8 22 rfl rfl)
theorem dX7_move_208 : decode cX7_move 208 = .ok (.goto 4, 3) := dk_167 0 4 (dk_at dksX7_move_9 0 rfl rfl)
theorem dX7_move_211 : decode cX7_move 211 = .ok (.iconst 3, 1) := dk_6 (dk_at dksX7_move_9 3 rfl rfl)
theorem dX7_move_212 : decode cX7_move 212 = .ok (.putfield 189, 3) := dk_181 0 189 (dk_at dksX7_move_9 4 rfl rfl)
theorem dX7_move_215 : decode cX7_move 215 = .ok (.return_, 1) := dk_177 (dk_at dksX7_move_9 7 rfl rfl)
abbrev cX7_movesFolder : ByteArray := prog_17_method_48_code
def yX7_movesFolder : MethodName := ⟨RX7, "movesFolder", "(III)Z"⟩
def dkwX7_movesFolder_14 : List UInt8 := [21, 9, 46, 79, 132, 7, 1, 132, 8, 1, 167, 255, 82, 42, 180, 0, 66, 27, 21, 7, 79, 4, 172]
abbrev dktX7_movesFolder_14 : List UInt8 := dkwX7_movesFolder_14 ++ []
def dkwX7_movesFolder_13 : List UInt8 := [42, 180, 0, 72, 21, 9, 46, 79, 42, 180, 0, 75, 16, 24, 27, 104, 21, 7, 96, 42, 180, 0, 75]
abbrev dktX7_movesFolder_13 : List UInt8 := dkwX7_movesFolder_13 ++ dktX7_movesFolder_14
def dkwX7_movesFolder_12 : List UInt8 := [180, 0, 72, 16, 24, 27, 104, 21, 7, 96, 21, 11, 153, 0, 12, 21, 6, 153, 0, 7, 6, 167, 0, 10]
abbrev dktX7_movesFolder_12 : List UInt8 := dkwX7_movesFolder_12 ++ dktX7_movesFolder_13
def dkwX7_movesFolder_11 : List UInt8 := [180, 0, 69, 21, 9, 46, 28, 29, 184, 1, 60, 167, 0, 10, 42, 180, 0, 69, 21, 9, 46, 79, 42]
abbrev dktX7_movesFolder_11 : List UInt8 := dkwX7_movesFolder_11 ++ dktX7_movesFolder_12
def dkwX7_movesFolder_10 : List UInt8 := [4, 167, 0, 4, 3, 54, 11, 42, 180, 0, 69, 16, 24, 27, 104, 21, 7, 96, 21, 10, 153, 0, 18, 42]
abbrev dktX7_movesFolder_10 : List UInt8 := dkwX7_movesFolder_10 ++ dktX7_movesFolder_11
def dkwX7_movesFolder_9 : List UInt8 := [184, 0, 210, 153, 0, 7, 4, 167, 0, 4, 3, 54, 10, 42, 180, 0, 69, 21, 9, 46, 28, 160, 0, 7]
abbrev dktX7_movesFolder_9 : List UInt8 := dkwX7_movesFolder_9 ++ dktX7_movesFolder_10
def dkwX7_movesFolder_8 : List UInt8 := [159, 0, 147, 42, 180, 0, 69, 21, 9, 46, 28, 159, 0, 17, 42, 180, 0, 69, 21, 9, 46, 28]
abbrev dktX7_movesFolder_8 : List UInt8 := dkwX7_movesFolder_8 ++ dktX7_movesFolder_9
def dkwX7_movesFolder_7 : List UInt8 := [21, 8, 42, 180, 0, 66, 27, 46, 162, 0, 169, 16, 24, 27, 104, 21, 8, 96, 54, 9, 21, 9, 21, 5]
abbrev dktX7_movesFolder_7 : List UInt8 := dkwX7_movesFolder_7 ++ dktX7_movesFolder_8
def dkwX7_movesFolder_6 : List UInt8 := [180, 0, 72, 21, 5, 46, 7, 160, 0, 7, 4, 167, 0, 4, 3, 54, 6, 3, 54, 7, 3, 54, 8]
abbrev dktX7_movesFolder_6 : List UInt8 := dkwX7_movesFolder_6 ++ dktX7_movesFolder_7
def dkwX7_movesFolder_5 : List UInt8 := [21, 4, 154, 0, 5, 3, 172, 42, 2, 27, 100, 29, 182, 0, 207, 54, 5, 21, 5, 2, 159, 0, 18, 42]
abbrev dktX7_movesFolder_5 : List UInt8 := dkwX7_movesFolder_5 ++ dktX7_movesFolder_6
def dkwX7_movesFolder_4 : List UInt8 := [28, 29, 184, 1, 60, 17, 3, 231, 163, 0, 7, 4, 167, 0, 4, 3, 54, 4, 132, 5, 1, 167, 255, 182]
abbrev dktX7_movesFolder_4 : List UInt8 := dkwX7_movesFolder_4 ++ dktX7_movesFolder_5
def dkwX7_movesFolder_3 : List UInt8 := [159, 0, 17, 42, 180, 0, 69, 21, 5, 46, 28, 184, 0, 210, 153, 0, 21, 42, 180, 0, 69, 21, 5, 46]
abbrev dktX7_movesFolder_3 : List UInt8 := dkwX7_movesFolder_3 ++ dktX7_movesFolder_4
def dkwX7_movesFolder_2 : List UInt8 := [104, 42, 180, 0, 66, 27, 46, 96, 162, 0, 64, 21, 4, 153, 0, 50, 42, 180, 0, 69, 21, 5, 46, 28]
abbrev dktX7_movesFolder_2 : List UInt8 := dkwX7_movesFolder_2 ++ dktX7_movesFolder_3
def dkwX7_movesFolder_1 : List UInt8 := [182, 1, 3, 154, 0, 7, 4, 167, 0, 4, 3, 54, 4, 16, 24, 27, 104, 54, 5, 21, 5, 16, 24, 27]
abbrev dktX7_movesFolder_1 : List UInt8 := dkwX7_movesFolder_1 ++ dktX7_movesFolder_2
def dkwX7_movesFolder_0 : List UInt8 := [29, 28, 159, 0, 30, 29, 28, 184, 0, 210, 154, 0, 22, 42, 42, 180, 0, 53, 27, 46, 2, 28]
abbrev dktX7_movesFolder_0 : List UInt8 := dkwX7_movesFolder_0 ++ dktX7_movesFolder_1
theorem dksX7_movesFolder_0 : cX7_movesFolder.data.toList.drop 0 = dktX7_movesFolder_0 := by decide +kernel
theorem dksX7_movesFolder_1 : cX7_movesFolder.data.toList.drop 22 = dktX7_movesFolder_1 := dk_seg dksX7_movesFolder_0 22 rfl rfl
theorem dksX7_movesFolder_2 : cX7_movesFolder.data.toList.drop 46 = dktX7_movesFolder_2 := dk_seg dksX7_movesFolder_1 24 rfl rfl
theorem dksX7_movesFolder_3 : cX7_movesFolder.data.toList.drop 70 = dktX7_movesFolder_3 := dk_seg dksX7_movesFolder_2 24 rfl rfl
theorem dksX7_movesFolder_4 : cX7_movesFolder.data.toList.drop 94 = dktX7_movesFolder_4 := dk_seg dksX7_movesFolder_3 24 rfl rfl
theorem dksX7_movesFolder_5 : cX7_movesFolder.data.toList.drop 118 = dktX7_movesFolder_5 := dk_seg dksX7_movesFolder_4 24 rfl rfl
theorem dksX7_movesFolder_6 : cX7_movesFolder.data.toList.drop 142 = dktX7_movesFolder_6 := dk_seg dksX7_movesFolder_5 24 rfl rfl
theorem dksX7_movesFolder_7 : cX7_movesFolder.data.toList.drop 165 = dktX7_movesFolder_7 := dk_seg dksX7_movesFolder_6 23 rfl rfl
theorem dksX7_movesFolder_8 : cX7_movesFolder.data.toList.drop 189 = dktX7_movesFolder_8 := dk_seg dksX7_movesFolder_7 24 rfl rfl
theorem dksX7_movesFolder_9 : cX7_movesFolder.data.toList.drop 211 = dktX7_movesFolder_9 := dk_seg dksX7_movesFolder_8 22 rfl rfl
theorem dksX7_movesFolder_10 : cX7_movesFolder.data.toList.drop 235 = dktX7_movesFolder_10 := dk_seg dksX7_movesFolder_9 24 rfl rfl
theorem dksX7_movesFolder_11 : cX7_movesFolder.data.toList.drop 259 = dktX7_movesFolder_11 := dk_seg dksX7_movesFolder_10 24 rfl rfl
theorem dksX7_movesFolder_12 : cX7_movesFolder.data.toList.drop 282 = dktX7_movesFolder_12 := dk_seg dksX7_movesFolder_11 23 rfl rfl
theorem dksX7_movesFolder_13 : cX7_movesFolder.data.toList.drop 306 = dktX7_movesFolder_13 := dk_seg dksX7_movesFolder_12 24 rfl rfl
theorem dksX7_movesFolder_14 : cX7_movesFolder.data.toList.drop 329 = dktX7_movesFolder_14 := dk_seg dksX7_movesFolder_13 23 rfl rfl
theorem dX7_movesFolder_0 : decode cX7_movesFolder 0 = .ok (.iload_n 3, 1) := dk_29 (dk_at dksX7_movesFolder_0 0 rfl rfl)
theorem dX7_movesFolder_1 : decode cX7_movesFolder 1 = .ok (.iload_n 2, 1) := dk_28 (dk_at dksX7_movesFolder_0 1 rfl rfl)
theorem dX7_movesFolder_2 : decode cX7_movesFolder 2 = .ok (.if_icmp .eq 30, 3) := dk_159 0 30 (dk_at dksX7_movesFolder_0 2 rfl rfl)
theorem dX7_movesFolder_5 : decode cX7_movesFolder 5 = .ok (.iload_n 3, 1) := dk_29 (dk_at dksX7_movesFolder_0 5 rfl rfl)
theorem dX7_movesFolder_6 : decode cX7_movesFolder 6 = .ok (.iload_n 2, 1) := dk_28 (dk_at dksX7_movesFolder_0 6 rfl rfl)
theorem dX7_movesFolder_7 : decode cX7_movesFolder 7 = .ok (.invokestatic 210, 3) := dk_184 0 210 (dk_at dksX7_movesFolder_0 7 rfl rfl)
theorem dX7_movesFolder_10 : decode cX7_movesFolder 10 = .ok (.ifCond .ne 22, 3) := dk_154 0 22 (dk_at dksX7_movesFolder_0 10 rfl rfl)
theorem dX7_movesFolder_13 : decode cX7_movesFolder 13 = .ok (.aload_n 0, 1) := dk_42 (dk_at dksX7_movesFolder_0 13 rfl rfl)
theorem dX7_movesFolder_14 : decode cX7_movesFolder 14 = .ok (.aload_n 0, 1) := dk_42 (dk_at dksX7_movesFolder_0 14 rfl rfl)
theorem dX7_movesFolder_15 : decode cX7_movesFolder 15 = .ok (.getfield 53, 3) := dk_180 0 53 (dk_at dksX7_movesFolder_0 15 rfl rfl)
theorem dX7_movesFolder_18 : decode cX7_movesFolder 18 = .ok (.iload_n 1, 1) := dk_27 (dk_at dksX7_movesFolder_0 18 rfl rfl)
theorem dX7_movesFolder_19 : decode cX7_movesFolder 19 = .ok (.iaload, 1) := dk_46 (dk_at dksX7_movesFolder_0 19 rfl rfl)
theorem dX7_movesFolder_20 : decode cX7_movesFolder 20 = .ok (.iconst (-1), 1) := dk_2 (dk_at dksX7_movesFolder_0 20 rfl rfl)
theorem dX7_movesFolder_21 : decode cX7_movesFolder 21 = .ok (.iload_n 2, 1) := dk_28 (dk_at dksX7_movesFolder_0 21 rfl rfl)
theorem dX7_movesFolder_22 : decode cX7_movesFolder 22 = .ok (.invokevirtual 259, 3) := dk_182 1 3 (dk_at dksX7_movesFolder_1 0 rfl rfl)
theorem dX7_movesFolder_25 : decode cX7_movesFolder 25 = .ok (.ifCond .ne 7, 3) := dk_154 0 7 (dk_at dksX7_movesFolder_1 3 rfl rfl)
theorem dX7_movesFolder_28 : decode cX7_movesFolder 28 = .ok (.iconst 1, 1) := dk_4 (dk_at dksX7_movesFolder_1 6 rfl rfl)
theorem dX7_movesFolder_29 : decode cX7_movesFolder 29 = .ok (.goto 4, 3) := dk_167 0 4 (dk_at dksX7_movesFolder_1 7 rfl rfl)
theorem dX7_movesFolder_32 : decode cX7_movesFolder 32 = .ok (.iconst 0, 1) := dk_3 (dk_at dksX7_movesFolder_1 10 rfl rfl)
theorem dX7_movesFolder_33 : decode cX7_movesFolder 33 = .ok (.istore 4, 2) := dk_54 4 (dk_at dksX7_movesFolder_1 11 rfl rfl)
theorem dX7_movesFolder_35 : decode cX7_movesFolder 35 = .ok (.bipush 24, 2) := dk_16 24 (dk_at dksX7_movesFolder_1 13 rfl rfl)
theorem dX7_movesFolder_37 : decode cX7_movesFolder 37 = .ok (.iload_n 1, 1) := dk_27 (dk_at dksX7_movesFolder_1 15 rfl rfl)
theorem dX7_movesFolder_38 : decode cX7_movesFolder 38 = .ok (.imul, 1) := dk_104 (dk_at dksX7_movesFolder_1 16 rfl rfl)
theorem dX7_movesFolder_39 : decode cX7_movesFolder 39 = .ok (.istore 5, 2) := dk_54 5 (dk_at dksX7_movesFolder_1 17 rfl rfl)
theorem dX7_movesFolder_41 : decode cX7_movesFolder 41 = .ok (.iload 5, 2) := dk_21 5 (dk_at dksX7_movesFolder_1 19 rfl rfl)
theorem dX7_movesFolder_43 : decode cX7_movesFolder 43 = .ok (.bipush 24, 2) := dk_16 24 (dk_at dksX7_movesFolder_1 21 rfl rfl)
theorem dX7_movesFolder_45 : decode cX7_movesFolder 45 = .ok (.iload_n 1, 1) := dk_27 (dk_at dksX7_movesFolder_1 23 rfl rfl)
theorem dX7_movesFolder_46 : decode cX7_movesFolder 46 = .ok (.imul, 1) := dk_104 (dk_at dksX7_movesFolder_2 0 rfl rfl)
theorem dX7_movesFolder_47 : decode cX7_movesFolder 47 = .ok (.aload_n 0, 1) := dk_42 (dk_at dksX7_movesFolder_2 1 rfl rfl)
theorem dX7_movesFolder_48 : decode cX7_movesFolder 48 = .ok (.getfield 66, 3) := dk_180 0 66 (dk_at dksX7_movesFolder_2 2 rfl rfl)
theorem dX7_movesFolder_51 : decode cX7_movesFolder 51 = .ok (.iload_n 1, 1) := dk_27 (dk_at dksX7_movesFolder_2 5 rfl rfl)
theorem dX7_movesFolder_52 : decode cX7_movesFolder 52 = .ok (.iaload, 1) := dk_46 (dk_at dksX7_movesFolder_2 6 rfl rfl)
theorem dX7_movesFolder_53 : decode cX7_movesFolder 53 = .ok (.iadd, 1) := dk_96 (dk_at dksX7_movesFolder_2 7 rfl rfl)
theorem dX7_movesFolder_54 : decode cX7_movesFolder 54 = .ok (.if_icmp .ge 64, 3) := dk_162 0 64 (dk_at dksX7_movesFolder_2 8 rfl rfl)
theorem dX7_movesFolder_57 : decode cX7_movesFolder 57 = .ok (.iload 4, 2) := dk_21 4 (dk_at dksX7_movesFolder_2 11 rfl rfl)
theorem dX7_movesFolder_59 : decode cX7_movesFolder 59 = .ok (.ifCond .eq 50, 3) := dk_153 0 50 (dk_at dksX7_movesFolder_2 13 rfl rfl)
theorem dX7_movesFolder_62 : decode cX7_movesFolder 62 = .ok (.aload_n 0, 1) := dk_42 (dk_at dksX7_movesFolder_2 16 rfl rfl)
theorem dX7_movesFolder_63 : decode cX7_movesFolder 63 = .ok (.getfield 69, 3) := dk_180 0 69 (dk_at dksX7_movesFolder_2 17 rfl rfl)
theorem dX7_movesFolder_66 : decode cX7_movesFolder 66 = .ok (.iload 5, 2) := dk_21 5 (dk_at dksX7_movesFolder_2 20 rfl rfl)
theorem dX7_movesFolder_68 : decode cX7_movesFolder 68 = .ok (.iaload, 1) := dk_46 (dk_at dksX7_movesFolder_2 22 rfl rfl)
theorem dX7_movesFolder_69 : decode cX7_movesFolder 69 = .ok (.iload_n 2, 1) := dk_28 (dk_at dksX7_movesFolder_2 23 rfl rfl)
theorem dX7_movesFolder_70 : decode cX7_movesFolder 70 = .ok (.if_icmp .eq 17, 3) := dk_159 0 17 (dk_at dksX7_movesFolder_3 0 rfl rfl)
theorem dX7_movesFolder_73 : decode cX7_movesFolder 73 = .ok (.aload_n 0, 1) := dk_42 (dk_at dksX7_movesFolder_3 3 rfl rfl)
theorem dX7_movesFolder_74 : decode cX7_movesFolder 74 = .ok (.getfield 69, 3) := dk_180 0 69 (dk_at dksX7_movesFolder_3 4 rfl rfl)
theorem dX7_movesFolder_77 : decode cX7_movesFolder 77 = .ok (.iload 5, 2) := dk_21 5 (dk_at dksX7_movesFolder_3 7 rfl rfl)
theorem dX7_movesFolder_79 : decode cX7_movesFolder 79 = .ok (.iaload, 1) := dk_46 (dk_at dksX7_movesFolder_3 9 rfl rfl)
theorem dX7_movesFolder_80 : decode cX7_movesFolder 80 = .ok (.iload_n 2, 1) := dk_28 (dk_at dksX7_movesFolder_3 10 rfl rfl)
theorem dX7_movesFolder_81 : decode cX7_movesFolder 81 = .ok (.invokestatic 210, 3) := dk_184 0 210 (dk_at dksX7_movesFolder_3 11 rfl rfl)
theorem dX7_movesFolder_84 : decode cX7_movesFolder 84 = .ok (.ifCond .eq 21, 3) := dk_153 0 21 (dk_at dksX7_movesFolder_3 14 rfl rfl)
theorem dX7_movesFolder_87 : decode cX7_movesFolder 87 = .ok (.aload_n 0, 1) := dk_42 (dk_at dksX7_movesFolder_3 17 rfl rfl)
theorem dX7_movesFolder_88 : decode cX7_movesFolder 88 = .ok (.getfield 69, 3) := dk_180 0 69 (dk_at dksX7_movesFolder_3 18 rfl rfl)
theorem dX7_movesFolder_91 : decode cX7_movesFolder 91 = .ok (.iload 5, 2) := dk_21 5 (dk_at dksX7_movesFolder_3 21 rfl rfl)
theorem dX7_movesFolder_93 : decode cX7_movesFolder 93 = .ok (.iaload, 1) := dk_46 (dk_at dksX7_movesFolder_3 23 rfl rfl)
theorem dX7_movesFolder_94 : decode cX7_movesFolder 94 = .ok (.iload_n 2, 1) := dk_28 (dk_at dksX7_movesFolder_4 0 rfl rfl)
theorem dX7_movesFolder_95 : decode cX7_movesFolder 95 = .ok (.iload_n 3, 1) := dk_29 (dk_at dksX7_movesFolder_4 1 rfl rfl)
theorem dX7_movesFolder_96 : decode cX7_movesFolder 96 = .ok (.invokestatic 316, 3) := dk_184 1 60 (dk_at dksX7_movesFolder_4 2 rfl rfl)
theorem dX7_movesFolder_99 : decode cX7_movesFolder 99 = .ok (.sipush 999, 3) := dk_17 3 231 (dk_at dksX7_movesFolder_4 5 rfl rfl)
theorem dX7_movesFolder_102 : decode cX7_movesFolder 102 = .ok (.if_icmp .gt 7, 3) := dk_163 0 7 (dk_at dksX7_movesFolder_4 8 rfl rfl)
theorem dX7_movesFolder_105 : decode cX7_movesFolder 105 = .ok (.iconst 1, 1) := dk_4 (dk_at dksX7_movesFolder_4 11 rfl rfl)
theorem dX7_movesFolder_106 : decode cX7_movesFolder 106 = .ok (.goto 4, 3) := dk_167 0 4 (dk_at dksX7_movesFolder_4 12 rfl rfl)
theorem dX7_movesFolder_109 : decode cX7_movesFolder 109 = .ok (.iconst 0, 1) := dk_3 (dk_at dksX7_movesFolder_4 15 rfl rfl)
theorem dX7_movesFolder_110 : decode cX7_movesFolder 110 = .ok (.istore 4, 2) := dk_54 4 (dk_at dksX7_movesFolder_4 16 rfl rfl)
theorem dX7_movesFolder_112 : decode cX7_movesFolder 112 = .ok (.iinc 5 1, 3) := dk_132 5 1 (dk_at dksX7_movesFolder_4 18 rfl rfl)
theorem dX7_movesFolder_115 : decode cX7_movesFolder 115 = .ok (.goto (-74), 3) := dk_167 255 182 (dk_at dksX7_movesFolder_4 21 rfl rfl)
theorem dX7_movesFolder_118 : decode cX7_movesFolder 118 = .ok (.iload 4, 2) := dk_21 4 (dk_at dksX7_movesFolder_5 0 rfl rfl)
theorem dX7_movesFolder_120 : decode cX7_movesFolder 120 = .ok (.ifCond .ne 5, 3) := dk_154 0 5 (dk_at dksX7_movesFolder_5 2 rfl rfl)
theorem dX7_movesFolder_123 : decode cX7_movesFolder 123 = .ok (.iconst 0, 1) := dk_3 (dk_at dksX7_movesFolder_5 5 rfl rfl)
theorem dX7_movesFolder_124 : decode cX7_movesFolder 124 = .ok (.ireturn, 1) := dk_172 (dk_at dksX7_movesFolder_5 6 rfl rfl)
theorem dX7_movesFolder_125 : decode cX7_movesFolder 125 = .ok (.aload_n 0, 1) := dk_42 (dk_at dksX7_movesFolder_5 7 rfl rfl)
theorem dX7_movesFolder_126 : decode cX7_movesFolder 126 = .ok (.iconst (-1), 1) := dk_2 (dk_at dksX7_movesFolder_5 8 rfl rfl)
theorem dX7_movesFolder_127 : decode cX7_movesFolder 127 = .ok (.iload_n 1, 1) := dk_27 (dk_at dksX7_movesFolder_5 9 rfl rfl)
theorem dX7_movesFolder_128 : decode cX7_movesFolder 128 = .ok (.isub, 1) := dk_100 (dk_at dksX7_movesFolder_5 10 rfl rfl)
theorem dX7_movesFolder_129 : decode cX7_movesFolder 129 = .ok (.iload_n 3, 1) := dk_29 (dk_at dksX7_movesFolder_5 11 rfl rfl)
theorem dX7_movesFolder_130 : decode cX7_movesFolder 130 = .ok (.invokevirtual 207, 3) := dk_182 0 207 (dk_at dksX7_movesFolder_5 12 rfl rfl)
theorem dX7_movesFolder_133 : decode cX7_movesFolder 133 = .ok (.istore 5, 2) := dk_54 5 (dk_at dksX7_movesFolder_5 15 rfl rfl)
theorem dX7_movesFolder_135 : decode cX7_movesFolder 135 = .ok (.iload 5, 2) := dk_21 5 (dk_at dksX7_movesFolder_5 17 rfl rfl)
theorem dX7_movesFolder_137 : decode cX7_movesFolder 137 = .ok (.iconst (-1), 1) := dk_2 (dk_at dksX7_movesFolder_5 19 rfl rfl)
theorem dX7_movesFolder_138 : decode cX7_movesFolder 138 = .ok (.if_icmp .eq 18, 3) := dk_159 0 18 (dk_at dksX7_movesFolder_5 20 rfl rfl)
theorem dX7_movesFolder_141 : decode cX7_movesFolder 141 = .ok (.aload_n 0, 1) := dk_42 (dk_at dksX7_movesFolder_5 23 rfl rfl)
theorem dX7_movesFolder_142 : decode cX7_movesFolder 142 = .ok (.getfield 72, 3) := dk_180 0 72 (dk_at dksX7_movesFolder_6 0 rfl rfl)
theorem dX7_movesFolder_145 : decode cX7_movesFolder 145 = .ok (.iload 5, 2) := dk_21 5 (dk_at dksX7_movesFolder_6 3 rfl rfl)
theorem dX7_movesFolder_147 : decode cX7_movesFolder 147 = .ok (.iaload, 1) := dk_46 (dk_at dksX7_movesFolder_6 5 rfl rfl)
theorem dX7_movesFolder_148 : decode cX7_movesFolder 148 = .ok (.iconst 4, 1) := dk_7 (dk_at dksX7_movesFolder_6 6 rfl rfl)
theorem dX7_movesFolder_149 : decode cX7_movesFolder 149 = .ok (.if_icmp .ne 7, 3) := dk_160 0 7 (dk_at dksX7_movesFolder_6 7 rfl rfl)
theorem dX7_movesFolder_152 : decode cX7_movesFolder 152 = .ok (.iconst 1, 1) := dk_4 (dk_at dksX7_movesFolder_6 10 rfl rfl)
theorem dX7_movesFolder_153 : decode cX7_movesFolder 153 = .ok (.goto 4, 3) := dk_167 0 4 (dk_at dksX7_movesFolder_6 11 rfl rfl)
theorem dX7_movesFolder_156 : decode cX7_movesFolder 156 = .ok (.iconst 0, 1) := dk_3 (dk_at dksX7_movesFolder_6 14 rfl rfl)
theorem dX7_movesFolder_157 : decode cX7_movesFolder 157 = .ok (.istore 6, 2) := dk_54 6 (dk_at dksX7_movesFolder_6 15 rfl rfl)
theorem dX7_movesFolder_159 : decode cX7_movesFolder 159 = .ok (.iconst 0, 1) := dk_3 (dk_at dksX7_movesFolder_6 17 rfl rfl)
theorem dX7_movesFolder_160 : decode cX7_movesFolder 160 = .ok (.istore 7, 2) := dk_54 7 (dk_at dksX7_movesFolder_6 18 rfl rfl)
theorem dX7_movesFolder_162 : decode cX7_movesFolder 162 = .ok (.iconst 0, 1) := dk_3 (dk_at dksX7_movesFolder_6 20 rfl rfl)
theorem dX7_movesFolder_163 : decode cX7_movesFolder 163 = .ok (.istore 8, 2) := dk_54 8 (dk_at dksX7_movesFolder_6 21 rfl rfl)
theorem dX7_movesFolder_165 : decode cX7_movesFolder 165 = .ok (.iload 8, 2) := dk_21 8 (dk_at dksX7_movesFolder_7 0 rfl rfl)
theorem dX7_movesFolder_167 : decode cX7_movesFolder 167 = .ok (.aload_n 0, 1) := dk_42 (dk_at dksX7_movesFolder_7 2 rfl rfl)
theorem dX7_movesFolder_168 : decode cX7_movesFolder 168 = .ok (.getfield 66, 3) := dk_180 0 66 (dk_at dksX7_movesFolder_7 3 rfl rfl)
theorem dX7_movesFolder_171 : decode cX7_movesFolder 171 = .ok (.iload_n 1, 1) := dk_27 (dk_at dksX7_movesFolder_7 6 rfl rfl)
theorem dX7_movesFolder_172 : decode cX7_movesFolder 172 = .ok (.iaload, 1) := dk_46 (dk_at dksX7_movesFolder_7 7 rfl rfl)
theorem dX7_movesFolder_173 : decode cX7_movesFolder 173 = .ok (.if_icmp .ge 169, 3) := dk_162 0 169 (dk_at dksX7_movesFolder_7 8 rfl rfl)
theorem dX7_movesFolder_176 : decode cX7_movesFolder 176 = .ok (.bipush 24, 2) := dk_16 24 (dk_at dksX7_movesFolder_7 11 rfl rfl)
theorem dX7_movesFolder_178 : decode cX7_movesFolder 178 = .ok (.iload_n 1, 1) := dk_27 (dk_at dksX7_movesFolder_7 13 rfl rfl)
theorem dX7_movesFolder_179 : decode cX7_movesFolder 179 = .ok (.imul, 1) := dk_104 (dk_at dksX7_movesFolder_7 14 rfl rfl)
theorem dX7_movesFolder_180 : decode cX7_movesFolder 180 = .ok (.iload 8, 2) := dk_21 8 (dk_at dksX7_movesFolder_7 15 rfl rfl)
theorem dX7_movesFolder_182 : decode cX7_movesFolder 182 = .ok (.iadd, 1) := dk_96 (dk_at dksX7_movesFolder_7 17 rfl rfl)
theorem dX7_movesFolder_183 : decode cX7_movesFolder 183 = .ok (.istore 9, 2) := dk_54 9 (dk_at dksX7_movesFolder_7 18 rfl rfl)
theorem dX7_movesFolder_185 : decode cX7_movesFolder 185 = .ok (.iload 9, 2) := dk_21 9 (dk_at dksX7_movesFolder_7 20 rfl rfl)
theorem dX7_movesFolder_187 : decode cX7_movesFolder 187 = .ok (.iload 5, 2) := dk_21 5 (dk_at dksX7_movesFolder_7 22 rfl rfl)
theorem dX7_movesFolder_189 : decode cX7_movesFolder 189 = .ok (.if_icmp .eq 147, 3) := dk_159 0 147 (dk_at dksX7_movesFolder_8 0 rfl rfl)
theorem dX7_movesFolder_192 : decode cX7_movesFolder 192 = .ok (.aload_n 0, 1) := dk_42 (dk_at dksX7_movesFolder_8 3 rfl rfl)
theorem dX7_movesFolder_193 : decode cX7_movesFolder 193 = .ok (.getfield 69, 3) := dk_180 0 69 (dk_at dksX7_movesFolder_8 4 rfl rfl)
theorem dX7_movesFolder_196 : decode cX7_movesFolder 196 = .ok (.iload 9, 2) := dk_21 9 (dk_at dksX7_movesFolder_8 7 rfl rfl)
theorem dX7_movesFolder_198 : decode cX7_movesFolder 198 = .ok (.iaload, 1) := dk_46 (dk_at dksX7_movesFolder_8 9 rfl rfl)
theorem dX7_movesFolder_199 : decode cX7_movesFolder 199 = .ok (.iload_n 2, 1) := dk_28 (dk_at dksX7_movesFolder_8 10 rfl rfl)
theorem dX7_movesFolder_200 : decode cX7_movesFolder 200 = .ok (.if_icmp .eq 17, 3) := dk_159 0 17 (dk_at dksX7_movesFolder_8 11 rfl rfl)
theorem dX7_movesFolder_203 : decode cX7_movesFolder 203 = .ok (.aload_n 0, 1) := dk_42 (dk_at dksX7_movesFolder_8 14 rfl rfl)
theorem dX7_movesFolder_204 : decode cX7_movesFolder 204 = .ok (.getfield 69, 3) := dk_180 0 69 (dk_at dksX7_movesFolder_8 15 rfl rfl)
theorem dX7_movesFolder_207 : decode cX7_movesFolder 207 = .ok (.iload 9, 2) := dk_21 9 (dk_at dksX7_movesFolder_8 18 rfl rfl)
theorem dX7_movesFolder_209 : decode cX7_movesFolder 209 = .ok (.iaload, 1) := dk_46 (dk_at dksX7_movesFolder_8 20 rfl rfl)
theorem dX7_movesFolder_210 : decode cX7_movesFolder 210 = .ok (.iload_n 2, 1) := dk_28 (dk_at dksX7_movesFolder_8 21 rfl rfl)
theorem dX7_movesFolder_211 : decode cX7_movesFolder 211 = .ok (.invokestatic 210, 3) := dk_184 0 210 (dk_at dksX7_movesFolder_9 0 rfl rfl)
theorem dX7_movesFolder_214 : decode cX7_movesFolder 214 = .ok (.ifCond .eq 7, 3) := dk_153 0 7 (dk_at dksX7_movesFolder_9 3 rfl rfl)
theorem dX7_movesFolder_217 : decode cX7_movesFolder 217 = .ok (.iconst 1, 1) := dk_4 (dk_at dksX7_movesFolder_9 6 rfl rfl)
theorem dX7_movesFolder_218 : decode cX7_movesFolder 218 = .ok (.goto 4, 3) := dk_167 0 4 (dk_at dksX7_movesFolder_9 7 rfl rfl)
theorem dX7_movesFolder_221 : decode cX7_movesFolder 221 = .ok (.iconst 0, 1) := dk_3 (dk_at dksX7_movesFolder_9 10 rfl rfl)
theorem dX7_movesFolder_222 : decode cX7_movesFolder 222 = .ok (.istore 10, 2) := dk_54 10 (dk_at dksX7_movesFolder_9 11 rfl rfl)
theorem dX7_movesFolder_224 : decode cX7_movesFolder 224 = .ok (.aload_n 0, 1) := dk_42 (dk_at dksX7_movesFolder_9 13 rfl rfl)
theorem dX7_movesFolder_225 : decode cX7_movesFolder 225 = .ok (.getfield 69, 3) := dk_180 0 69 (dk_at dksX7_movesFolder_9 14 rfl rfl)
theorem dX7_movesFolder_228 : decode cX7_movesFolder 228 = .ok (.iload 9, 2) := dk_21 9 (dk_at dksX7_movesFolder_9 17 rfl rfl)
theorem dX7_movesFolder_230 : decode cX7_movesFolder 230 = .ok (.iaload, 1) := dk_46 (dk_at dksX7_movesFolder_9 19 rfl rfl)
theorem dX7_movesFolder_231 : decode cX7_movesFolder 231 = .ok (.iload_n 2, 1) := dk_28 (dk_at dksX7_movesFolder_9 20 rfl rfl)
theorem dX7_movesFolder_232 : decode cX7_movesFolder 232 = .ok (.if_icmp .ne 7, 3) := dk_160 0 7 (dk_at dksX7_movesFolder_9 21 rfl rfl)
theorem dX7_movesFolder_235 : decode cX7_movesFolder 235 = .ok (.iconst 1, 1) := dk_4 (dk_at dksX7_movesFolder_10 0 rfl rfl)
theorem dX7_movesFolder_236 : decode cX7_movesFolder 236 = .ok (.goto 4, 3) := dk_167 0 4 (dk_at dksX7_movesFolder_10 1 rfl rfl)
theorem dX7_movesFolder_239 : decode cX7_movesFolder 239 = .ok (.iconst 0, 1) := dk_3 (dk_at dksX7_movesFolder_10 4 rfl rfl)
theorem dX7_movesFolder_240 : decode cX7_movesFolder 240 = .ok (.istore 11, 2) := dk_54 11 (dk_at dksX7_movesFolder_10 5 rfl rfl)
theorem dX7_movesFolder_242 : decode cX7_movesFolder 242 = .ok (.aload_n 0, 1) := dk_42 (dk_at dksX7_movesFolder_10 7 rfl rfl)
theorem dX7_movesFolder_243 : decode cX7_movesFolder 243 = .ok (.getfield 69, 3) := dk_180 0 69 (dk_at dksX7_movesFolder_10 8 rfl rfl)
theorem dX7_movesFolder_246 : decode cX7_movesFolder 246 = .ok (.bipush 24, 2) := dk_16 24 (dk_at dksX7_movesFolder_10 11 rfl rfl)
theorem dX7_movesFolder_248 : decode cX7_movesFolder 248 = .ok (.iload_n 1, 1) := dk_27 (dk_at dksX7_movesFolder_10 13 rfl rfl)
theorem dX7_movesFolder_249 : decode cX7_movesFolder 249 = .ok (.imul, 1) := dk_104 (dk_at dksX7_movesFolder_10 14 rfl rfl)
theorem dX7_movesFolder_250 : decode cX7_movesFolder 250 = .ok (.iload 7, 2) := dk_21 7 (dk_at dksX7_movesFolder_10 15 rfl rfl)
theorem dX7_movesFolder_252 : decode cX7_movesFolder 252 = .ok (.iadd, 1) := dk_96 (dk_at dksX7_movesFolder_10 17 rfl rfl)
theorem dX7_movesFolder_253 : decode cX7_movesFolder 253 = .ok (.iload 10, 2) := dk_21 10 (dk_at dksX7_movesFolder_10 18 rfl rfl)
theorem dX7_movesFolder_255 : decode cX7_movesFolder 255 = .ok (.ifCond .eq 18, 3) := dk_153 0 18 (dk_at dksX7_movesFolder_10 20 rfl rfl)
theorem dX7_movesFolder_258 : decode cX7_movesFolder 258 = .ok (.aload_n 0, 1) := dk_42 (dk_at dksX7_movesFolder_10 23 rfl rfl)
theorem dX7_movesFolder_259 : decode cX7_movesFolder 259 = .ok (.getfield 69, 3) := dk_180 0 69 (dk_at dksX7_movesFolder_11 0 rfl rfl)
theorem dX7_movesFolder_262 : decode cX7_movesFolder 262 = .ok (.iload 9, 2) := dk_21 9 (dk_at dksX7_movesFolder_11 3 rfl rfl)
theorem dX7_movesFolder_264 : decode cX7_movesFolder 264 = .ok (.iaload, 1) := dk_46 (dk_at dksX7_movesFolder_11 5 rfl rfl)
theorem dX7_movesFolder_265 : decode cX7_movesFolder 265 = .ok (.iload_n 2, 1) := dk_28 (dk_at dksX7_movesFolder_11 6 rfl rfl)
theorem dX7_movesFolder_266 : decode cX7_movesFolder 266 = .ok (.iload_n 3, 1) := dk_29 (dk_at dksX7_movesFolder_11 7 rfl rfl)
theorem dX7_movesFolder_267 : decode cX7_movesFolder 267 = .ok (.invokestatic 316, 3) := dk_184 1 60 (dk_at dksX7_movesFolder_11 8 rfl rfl)
theorem dX7_movesFolder_270 : decode cX7_movesFolder 270 = .ok (.goto 10, 3) := dk_167 0 10 (dk_at dksX7_movesFolder_11 11 rfl rfl)
theorem dX7_movesFolder_273 : decode cX7_movesFolder 273 = .ok (.aload_n 0, 1) := dk_42 (dk_at dksX7_movesFolder_11 14 rfl rfl)
theorem dX7_movesFolder_274 : decode cX7_movesFolder 274 = .ok (.getfield 69, 3) := dk_180 0 69 (dk_at dksX7_movesFolder_11 15 rfl rfl)
theorem dX7_movesFolder_277 : decode cX7_movesFolder 277 = .ok (.iload 9, 2) := dk_21 9 (dk_at dksX7_movesFolder_11 18 rfl rfl)
theorem dX7_movesFolder_279 : decode cX7_movesFolder 279 = .ok (.iaload, 1) := dk_46 (dk_at dksX7_movesFolder_11 20 rfl rfl)
theorem dX7_movesFolder_280 : decode cX7_movesFolder 280 = .ok (.iastore, 1) := dk_79 (dk_at dksX7_movesFolder_11 21 rfl rfl)
theorem dX7_movesFolder_281 : decode cX7_movesFolder 281 = .ok (.aload_n 0, 1) := dk_42 (dk_at dksX7_movesFolder_11 22 rfl rfl)
theorem dX7_movesFolder_282 : decode cX7_movesFolder 282 = .ok (.getfield 72, 3) := dk_180 0 72 (dk_at dksX7_movesFolder_12 0 rfl rfl)
theorem dX7_movesFolder_285 : decode cX7_movesFolder 285 = .ok (.bipush 24, 2) := dk_16 24 (dk_at dksX7_movesFolder_12 3 rfl rfl)
theorem dX7_movesFolder_287 : decode cX7_movesFolder 287 = .ok (.iload_n 1, 1) := dk_27 (dk_at dksX7_movesFolder_12 5 rfl rfl)
theorem dX7_movesFolder_288 : decode cX7_movesFolder 288 = .ok (.imul, 1) := dk_104 (dk_at dksX7_movesFolder_12 6 rfl rfl)
theorem dX7_movesFolder_289 : decode cX7_movesFolder 289 = .ok (.iload 7, 2) := dk_21 7 (dk_at dksX7_movesFolder_12 7 rfl rfl)
theorem dX7_movesFolder_291 : decode cX7_movesFolder 291 = .ok (.iadd, 1) := dk_96 (dk_at dksX7_movesFolder_12 9 rfl rfl)
theorem dX7_movesFolder_292 : decode cX7_movesFolder 292 = .ok (.iload 11, 2) := dk_21 11 (dk_at dksX7_movesFolder_12 10 rfl rfl)
theorem dX7_movesFolder_294 : decode cX7_movesFolder 294 = .ok (.ifCond .eq 12, 3) := dk_153 0 12 (dk_at dksX7_movesFolder_12 12 rfl rfl)
theorem dX7_movesFolder_297 : decode cX7_movesFolder 297 = .ok (.iload 6, 2) := dk_21 6 (dk_at dksX7_movesFolder_12 15 rfl rfl)
theorem dX7_movesFolder_299 : decode cX7_movesFolder 299 = .ok (.ifCond .eq 7, 3) := dk_153 0 7 (dk_at dksX7_movesFolder_12 17 rfl rfl)
theorem dX7_movesFolder_302 : decode cX7_movesFolder 302 = .ok (.iconst 3, 1) := dk_6 (dk_at dksX7_movesFolder_12 20 rfl rfl)
theorem dX7_movesFolder_303 : decode cX7_movesFolder 303 = .ok (.goto 10, 3) := dk_167 0 10 (dk_at dksX7_movesFolder_12 21 rfl rfl)
theorem dX7_movesFolder_306 : decode cX7_movesFolder 306 = .ok (.aload_n 0, 1) := dk_42 (dk_at dksX7_movesFolder_13 0 rfl rfl)
theorem dX7_movesFolder_307 : decode cX7_movesFolder 307 = .ok (.getfield 72, 3) := dk_180 0 72 (dk_at dksX7_movesFolder_13 1 rfl rfl)
theorem dX7_movesFolder_310 : decode cX7_movesFolder 310 = .ok (.iload 9, 2) := dk_21 9 (dk_at dksX7_movesFolder_13 4 rfl rfl)
theorem dX7_movesFolder_312 : decode cX7_movesFolder 312 = .ok (.iaload, 1) := dk_46 (dk_at dksX7_movesFolder_13 6 rfl rfl)
theorem dX7_movesFolder_313 : decode cX7_movesFolder 313 = .ok (.iastore, 1) := dk_79 (dk_at dksX7_movesFolder_13 7 rfl rfl)
theorem dX7_movesFolder_314 : decode cX7_movesFolder 314 = .ok (.aload_n 0, 1) := dk_42 (dk_at dksX7_movesFolder_13 8 rfl rfl)
theorem dX7_movesFolder_315 : decode cX7_movesFolder 315 = .ok (.getfield 75, 3) := dk_180 0 75 (dk_at dksX7_movesFolder_13 9 rfl rfl)
theorem dX7_movesFolder_318 : decode cX7_movesFolder 318 = .ok (.bipush 24, 2) := dk_16 24 (dk_at dksX7_movesFolder_13 12 rfl rfl)
theorem dX7_movesFolder_320 : decode cX7_movesFolder 320 = .ok (.iload_n 1, 1) := dk_27 (dk_at dksX7_movesFolder_13 14 rfl rfl)
theorem dX7_movesFolder_321 : decode cX7_movesFolder 321 = .ok (.imul, 1) := dk_104 (dk_at dksX7_movesFolder_13 15 rfl rfl)
theorem dX7_movesFolder_322 : decode cX7_movesFolder 322 = .ok (.iload 7, 2) := dk_21 7 (dk_at dksX7_movesFolder_13 16 rfl rfl)
theorem dX7_movesFolder_324 : decode cX7_movesFolder 324 = .ok (.iadd, 1) := dk_96 (dk_at dksX7_movesFolder_13 18 rfl rfl)
theorem dX7_movesFolder_325 : decode cX7_movesFolder 325 = .ok (.aload_n 0, 1) := dk_42 (dk_at dksX7_movesFolder_13 19 rfl rfl)
theorem dX7_movesFolder_326 : decode cX7_movesFolder 326 = .ok (.getfield 75, 3) := dk_180 0 75 (dk_at dksX7_movesFolder_13 20 rfl rfl)
theorem dX7_movesFolder_329 : decode cX7_movesFolder 329 = .ok (.iload 9, 2) := dk_21 9 (dk_at dksX7_movesFolder_14 0 rfl rfl)
theorem dX7_movesFolder_331 : decode cX7_movesFolder 331 = .ok (.iaload, 1) := dk_46 (dk_at dksX7_movesFolder_14 2 rfl rfl)
theorem dX7_movesFolder_332 : decode cX7_movesFolder 332 = .ok (.iastore, 1) := dk_79 (dk_at dksX7_movesFolder_14 3 rfl rfl)
theorem dX7_movesFolder_333 : decode cX7_movesFolder 333 = .ok (.iinc 7 1, 3) := dk_132 7 1 (dk_at dksX7_movesFolder_14 4 rfl rfl)
theorem dX7_movesFolder_336 : decode cX7_movesFolder 336 = .ok (.iinc 8 1, 3) := dk_132 8 1 (dk_at dksX7_movesFolder_14 7 rfl rfl)
theorem dX7_movesFolder_339 : decode cX7_movesFolder 339 = .ok (.goto (-174), 3) := dk_167 255 82 (dk_at dksX7_movesFolder_14 10 rfl rfl)
theorem dX7_movesFolder_342 : decode cX7_movesFolder 342 = .ok (.aload_n 0, 1) := dk_42 (dk_at dksX7_movesFolder_14 13 rfl rfl)
theorem dX7_movesFolder_343 : decode cX7_movesFolder 343 = .ok (.getfield 66, 3) := dk_180 0 66 (dk_at dksX7_movesFolder_14 14 rfl rfl)
theorem dX7_movesFolder_346 : decode cX7_movesFolder 346 = .ok (.iload_n 1, 1) := dk_27 (dk_at dksX7_movesFolder_14 17 rfl rfl)
theorem dX7_movesFolder_347 : decode cX7_movesFolder 347 = .ok (.iload 7, 2) := dk_21 7 (dk_at dksX7_movesFolder_14 18 rfl rfl)
theorem dX7_movesFolder_349 : decode cX7_movesFolder 349 = .ok (.iastore, 1) := dk_79 (dk_at dksX7_movesFolder_14 20 rfl rfl)
theorem dX7_movesFolder_350 : decode cX7_movesFolder 350 = .ok (.iconst 1, 1) := dk_4 (dk_at dksX7_movesFolder_14 21 rfl rfl)
theorem dX7_movesFolder_351 : decode cX7_movesFolder 351 = .ok (.ireturn, 1) := dk_172 (dk_at dksX7_movesFolder_14 22 rfl rfl)
abbrev cX7_moved : ByteArray := prog_17_method_47_code
def yX7_moved : MethodName := ⟨RX7, "moved", "(III)I"⟩
def dkwX7_moved_1 : List UInt8 := [62, 28, 29, 104, 26, 29, 112, 96, 172]
abbrev dktX7_moved_1 : List UInt8 := dkwX7_moved_1 ++ []
def dkwX7_moved_0 : List UInt8 := [26, 27, 160, 0, 7, 4, 167, 0, 18, 26, 16, 10, 108, 27, 160, 0, 8, 16, 10, 167, 0, 5, 16, 100]
abbrev dktX7_moved_0 : List UInt8 := dkwX7_moved_0 ++ dktX7_moved_1
theorem dksX7_moved_0 : cX7_moved.data.toList.drop 0 = dktX7_moved_0 := by decide +kernel
theorem dksX7_moved_1 : cX7_moved.data.toList.drop 24 = dktX7_moved_1 := dk_seg dksX7_moved_0 24 rfl rfl
theorem dX7_moved_0 : decode cX7_moved 0 = .ok (.iload_n 0, 1) := dk_26 (dk_at dksX7_moved_0 0 rfl rfl)
theorem dX7_moved_1 : decode cX7_moved 1 = .ok (.iload_n 1, 1) := dk_27 (dk_at dksX7_moved_0 1 rfl rfl)
theorem dX7_moved_2 : decode cX7_moved 2 = .ok (.if_icmp .ne 7, 3) := dk_160 0 7 (dk_at dksX7_moved_0 2 rfl rfl)
theorem dX7_moved_5 : decode cX7_moved 5 = .ok (.iconst 1, 1) := dk_4 (dk_at dksX7_moved_0 5 rfl rfl)
theorem dX7_moved_6 : decode cX7_moved 6 = .ok (.goto 18, 3) := dk_167 0 18 (dk_at dksX7_moved_0 6 rfl rfl)
theorem dX7_moved_9 : decode cX7_moved 9 = .ok (.iload_n 0, 1) := dk_26 (dk_at dksX7_moved_0 9 rfl rfl)
theorem dX7_moved_10 : decode cX7_moved 10 = .ok (.bipush 10, 2) := dk_16 10 (dk_at dksX7_moved_0 10 rfl rfl)
theorem dX7_moved_12 : decode cX7_moved 12 = .ok (.idiv, 1) := dk_108 (dk_at dksX7_moved_0 12 rfl rfl)
theorem dX7_moved_13 : decode cX7_moved 13 = .ok (.iload_n 1, 1) := dk_27 (dk_at dksX7_moved_0 13 rfl rfl)
theorem dX7_moved_14 : decode cX7_moved 14 = .ok (.if_icmp .ne 8, 3) := dk_160 0 8 (dk_at dksX7_moved_0 14 rfl rfl)
theorem dX7_moved_17 : decode cX7_moved 17 = .ok (.bipush 10, 2) := dk_16 10 (dk_at dksX7_moved_0 17 rfl rfl)
theorem dX7_moved_19 : decode cX7_moved 19 = .ok (.goto 5, 3) := dk_167 0 5 (dk_at dksX7_moved_0 19 rfl rfl)
theorem dX7_moved_22 : decode cX7_moved 22 = .ok (.bipush 100, 2) := dk_16 100 (dk_at dksX7_moved_0 22 rfl rfl)
theorem dX7_moved_24 : decode cX7_moved 24 = .ok (.istore_n 3, 1) := dk_62 (dk_at dksX7_moved_1 0 rfl rfl)
theorem dX7_moved_25 : decode cX7_moved 25 = .ok (.iload_n 2, 1) := dk_28 (dk_at dksX7_moved_1 1 rfl rfl)
theorem dX7_moved_26 : decode cX7_moved 26 = .ok (.iload_n 3, 1) := dk_29 (dk_at dksX7_moved_1 2 rfl rfl)
theorem dX7_moved_27 : decode cX7_moved 27 = .ok (.imul, 1) := dk_104 (dk_at dksX7_moved_1 3 rfl rfl)
theorem dX7_moved_28 : decode cX7_moved 28 = .ok (.iload_n 0, 1) := dk_26 (dk_at dksX7_moved_1 4 rfl rfl)
theorem dX7_moved_29 : decode cX7_moved 29 = .ok (.iload_n 3, 1) := dk_29 (dk_at dksX7_moved_1 5 rfl rfl)
theorem dX7_moved_30 : decode cX7_moved 30 = .ok (.irem, 1) := dk_112 (dk_at dksX7_moved_1 6 rfl rfl)
theorem dX7_moved_31 : decode cX7_moved 31 = .ok (.iadd, 1) := dk_96 (dk_at dksX7_moved_1 7 rfl rfl)
theorem dX7_moved_32 : decode cX7_moved 32 = .ok (.ireturn, 1) := dk_172 (dk_at dksX7_moved_1 8 rfl rfl)
abbrev cX7_mount : ByteArray := prog_17_method_50_code
def yX7_mount : MethodName := ⟨RX7, "mount", "(III)V"⟩
def dkwX7_mount_4 : List UInt8 := [154, 0, 16, 42, 180, 0, 87, 16, 100, 21, 4, 104, 28, 96, 29, 79, 177]
abbrev dktX7_mount_4 : List UInt8 := dkwX7_mount_4 ++ []
def dkwX7_mount_3 : List UInt8 := [154, 0, 14, 42, 21, 4, 28, 182, 1, 37, 5, 159, 0, 8, 42, 6, 181, 0, 189, 42, 180, 0, 189]
abbrev dktX7_mount_3 : List UInt8 := dkwX7_mount_3 ++ dktX7_mount_4
def dkwX7_mount_2 : List UInt8 := [42, 180, 0, 189, 154, 0, 39, 42, 21, 4, 28, 182, 1, 34, 154, 0, 24, 42, 21, 4, 28, 182, 1, 53]
abbrev dktX7_mount_2 : List UInt8 := dkwX7_mount_2 ++ dktX7_mount_3
def dkwX7_mount_1 : List UInt8 := [167, 0, 21, 28, 184, 0, 221, 153, 0, 9, 28, 16, 99, 164, 0, 7, 5, 167, 0, 4, 3, 181, 0, 189]
abbrev dktX7_mount_1 : List UInt8 := dkwX7_mount_1 ++ dktX7_mount_2
def dkwX7_mount_0 : List UInt8 := [42, 27, 182, 1, 24, 54, 4, 42, 21, 4, 2, 159, 0, 12, 29, 3, 6, 184, 0, 192, 154, 0, 7, 4]
abbrev dktX7_mount_0 : List UInt8 := dkwX7_mount_0 ++ dktX7_mount_1
theorem dksX7_mount_0 : cX7_mount.data.toList.drop 0 = dktX7_mount_0 := by decide +kernel
theorem dksX7_mount_1 : cX7_mount.data.toList.drop 24 = dktX7_mount_1 := dk_seg dksX7_mount_0 24 rfl rfl
theorem dksX7_mount_2 : cX7_mount.data.toList.drop 48 = dktX7_mount_2 := dk_seg dksX7_mount_1 24 rfl rfl
theorem dksX7_mount_3 : cX7_mount.data.toList.drop 72 = dktX7_mount_3 := dk_seg dksX7_mount_2 24 rfl rfl
theorem dksX7_mount_4 : cX7_mount.data.toList.drop 95 = dktX7_mount_4 := dk_seg dksX7_mount_3 23 rfl rfl
theorem dX7_mount_0 : decode cX7_mount 0 = .ok (.aload_n 0, 1) := dk_42 (dk_at dksX7_mount_0 0 rfl rfl)
theorem dX7_mount_1 : decode cX7_mount 1 = .ok (.iload_n 1, 1) := dk_27 (dk_at dksX7_mount_0 1 rfl rfl)
theorem dX7_mount_2 : decode cX7_mount 2 = .ok (.invokevirtual 280, 3) := dk_182 1 24 (dk_at dksX7_mount_0 2 rfl rfl)
theorem dX7_mount_5 : decode cX7_mount 5 = .ok (.istore 4, 2) := dk_54 4 (dk_at dksX7_mount_0 5 rfl rfl)
theorem dX7_mount_7 : decode cX7_mount 7 = .ok (.aload_n 0, 1) := dk_42 (dk_at dksX7_mount_0 7 rfl rfl)
theorem dX7_mount_8 : decode cX7_mount 8 = .ok (.iload 4, 2) := dk_21 4 (dk_at dksX7_mount_0 8 rfl rfl)
theorem dX7_mount_10 : decode cX7_mount 10 = .ok (.iconst (-1), 1) := dk_2 (dk_at dksX7_mount_0 10 rfl rfl)
theorem dX7_mount_11 : decode cX7_mount 11 = .ok (.if_icmp .eq 12, 3) := dk_159 0 12 (dk_at dksX7_mount_0 11 rfl rfl)
theorem dX7_mount_14 : decode cX7_mount 14 = .ok (.iload_n 3, 1) := dk_29 (dk_at dksX7_mount_0 14 rfl rfl)
theorem dX7_mount_15 : decode cX7_mount 15 = .ok (.iconst 0, 1) := dk_3 (dk_at dksX7_mount_0 15 rfl rfl)
theorem dX7_mount_16 : decode cX7_mount 16 = .ok (.iconst 3, 1) := dk_6 (dk_at dksX7_mount_0 16 rfl rfl)
theorem dX7_mount_17 : decode cX7_mount 17 = .ok (.invokestatic 192, 3) := dk_184 0 192 (dk_at dksX7_mount_0 17 rfl rfl)
theorem dX7_mount_20 : decode cX7_mount 20 = .ok (.ifCond .ne 7, 3) := dk_154 0 7 (dk_at dksX7_mount_0 20 rfl rfl)
theorem dX7_mount_23 : decode cX7_mount 23 = .ok (.iconst 1, 1) := dk_4 (dk_at dksX7_mount_0 23 rfl rfl)
theorem dX7_mount_24 : decode cX7_mount 24 = .ok (.goto 21, 3) := dk_167 0 21 (dk_at dksX7_mount_1 0 rfl rfl)
theorem dX7_mount_27 : decode cX7_mount 27 = .ok (.iload_n 2, 1) := dk_28 (dk_at dksX7_mount_1 3 rfl rfl)
theorem dX7_mount_28 : decode cX7_mount 28 = .ok (.invokestatic 221, 3) := dk_184 0 221 (dk_at dksX7_mount_1 4 rfl rfl)
theorem dX7_mount_31 : decode cX7_mount 31 = .ok (.ifCond .eq 9, 3) := dk_153 0 9 (dk_at dksX7_mount_1 7 rfl rfl)
theorem dX7_mount_34 : decode cX7_mount 34 = .ok (.iload_n 2, 1) := dk_28 (dk_at dksX7_mount_1 10 rfl rfl)
theorem dX7_mount_35 : decode cX7_mount 35 = .ok (.bipush 99, 2) := dk_16 99 (dk_at dksX7_mount_1 11 rfl rfl)
theorem dX7_mount_37 : decode cX7_mount 37 = .ok (.if_icmp .le 7, 3) := dk_164 0 7 (dk_at dksX7_mount_1 13 rfl rfl)
theorem dX7_mount_40 : decode cX7_mount 40 = .ok (.iconst 2, 1) := dk_5 (dk_at dksX7_mount_1 16 rfl rfl)
theorem dX7_mount_41 : decode cX7_mount 41 = .ok (.goto 4, 3) := dk_167 0 4 (dk_at dksX7_mount_1 17 rfl rfl)
theorem dX7_mount_44 : decode cX7_mount 44 = .ok (.iconst 0, 1) := dk_3 (dk_at dksX7_mount_1 20 rfl rfl)
theorem dX7_mount_45 : decode cX7_mount 45 = .ok (.putfield 189, 3) := dk_181 0 189 (dk_at dksX7_mount_1 21 rfl rfl)
theorem dX7_mount_48 : decode cX7_mount 48 = .ok (.aload_n 0, 1) := dk_42 (dk_at dksX7_mount_2 0 rfl rfl)
theorem dX7_mount_49 : decode cX7_mount 49 = .ok (.getfield 189, 3) := dk_180 0 189 (dk_at dksX7_mount_2 1 rfl rfl)
theorem dX7_mount_52 : decode cX7_mount 52 = .ok (.ifCond .ne 39, 3) := dk_154 0 39 (dk_at dksX7_mount_2 4 rfl rfl)
theorem dX7_mount_55 : decode cX7_mount 55 = .ok (.aload_n 0, 1) := dk_42 (dk_at dksX7_mount_2 7 rfl rfl)
theorem dX7_mount_56 : decode cX7_mount 56 = .ok (.iload 4, 2) := dk_21 4 (dk_at dksX7_mount_2 8 rfl rfl)
theorem dX7_mount_58 : decode cX7_mount 58 = .ok (.iload_n 2, 1) := dk_28 (dk_at dksX7_mount_2 10 rfl rfl)
theorem dX7_mount_59 : decode cX7_mount 59 = .ok (.invokevirtual 290, 3) := dk_182 1 34 (dk_at dksX7_mount_2 11 rfl rfl)
theorem dX7_mount_62 : decode cX7_mount 62 = .ok (.ifCond .ne 24, 3) := dk_154 0 24 (dk_at dksX7_mount_2 14 rfl rfl)
theorem dX7_mount_65 : decode cX7_mount 65 = .ok (.aload_n 0, 1) := dk_42 (dk_at dksX7_mount_2 17 rfl rfl)
theorem dX7_mount_66 : decode cX7_mount 66 = .ok (.iload 4, 2) := dk_21 4 (dk_at dksX7_mount_2 18 rfl rfl)
theorem dX7_mount_68 : decode cX7_mount 68 = .ok (.iload_n 2, 1) := dk_28 (dk_at dksX7_mount_2 20 rfl rfl)
theorem dX7_mount_69 : decode cX7_mount 69 = .ok (.invokevirtual 309, 3) := dk_182 1 53 (dk_at dksX7_mount_2 21 rfl rfl)
theorem dX7_mount_72 : decode cX7_mount 72 = .ok (.ifCond .ne 14, 3) := dk_154 0 14 (dk_at dksX7_mount_3 0 rfl rfl)
theorem dX7_mount_75 : decode cX7_mount 75 = .ok (.aload_n 0, 1) := dk_42 (dk_at dksX7_mount_3 3 rfl rfl)
theorem dX7_mount_76 : decode cX7_mount 76 = .ok (.iload 4, 2) := dk_21 4 (dk_at dksX7_mount_3 4 rfl rfl)
theorem dX7_mount_78 : decode cX7_mount 78 = .ok (.iload_n 2, 1) := dk_28 (dk_at dksX7_mount_3 6 rfl rfl)
theorem dX7_mount_79 : decode cX7_mount 79 = .ok (.invokevirtual 293, 3) := dk_182 1 37 (dk_at dksX7_mount_3 7 rfl rfl)
theorem dX7_mount_82 : decode cX7_mount 82 = .ok (.iconst 2, 1) := dk_5 (dk_at dksX7_mount_3 10 rfl rfl)
theorem dX7_mount_83 : decode cX7_mount 83 = .ok (.if_icmp .eq 8, 3) := dk_159 0 8 (dk_at dksX7_mount_3 11 rfl rfl)
theorem dX7_mount_86 : decode cX7_mount 86 = .ok (.aload_n 0, 1) := dk_42 (dk_at dksX7_mount_3 14 rfl rfl)
theorem dX7_mount_87 : decode cX7_mount 87 = .ok (.iconst 3, 1) := dk_6 (dk_at dksX7_mount_3 15 rfl rfl)
theorem dX7_mount_88 : decode cX7_mount 88 = .ok (.putfield 189, 3) := dk_181 0 189 (dk_at dksX7_mount_3 16 rfl rfl)
theorem dX7_mount_91 : decode cX7_mount 91 = .ok (.aload_n 0, 1) := dk_42 (dk_at dksX7_mount_3 19 rfl rfl)
theorem dX7_mount_92 : decode cX7_mount 92 = .ok (.getfield 189, 3) := dk_180 0 189 (dk_at dksX7_mount_3 20 rfl rfl)
theorem dX7_mount_95 : decode cX7_mount 95 = .ok (.ifCond .ne 16, 3) := dk_154 0 16 (dk_at dksX7_mount_4 0 rfl rfl)
theorem dX7_mount_98 : decode cX7_mount 98 = .ok (.aload_n 0, 1) := dk_42 (dk_at dksX7_mount_4 3 rfl rfl)
theorem dX7_mount_99 : decode cX7_mount 99 = .ok (.getfield 87, 3) := dk_180 0 87 (dk_at dksX7_mount_4 4 rfl rfl)
theorem dX7_mount_102 : decode cX7_mount 102 = .ok (.bipush 100, 2) := dk_16 100 (dk_at dksX7_mount_4 7 rfl rfl)
theorem dX7_mount_104 : decode cX7_mount 104 = .ok (.iload 4, 2) := dk_21 4 (dk_at dksX7_mount_4 9 rfl rfl)
theorem dX7_mount_106 : decode cX7_mount 106 = .ok (.imul, 1) := dk_104 (dk_at dksX7_mount_4 11 rfl rfl)
theorem dX7_mount_107 : decode cX7_mount 107 = .ok (.iload_n 2, 1) := dk_28 (dk_at dksX7_mount_4 12 rfl rfl)
theorem dX7_mount_108 : decode cX7_mount 108 = .ok (.iadd, 1) := dk_96 (dk_at dksX7_mount_4 13 rfl rfl)
theorem dX7_mount_109 : decode cX7_mount 109 = .ok (.iload_n 3, 1) := dk_29 (dk_at dksX7_mount_4 14 rfl rfl)
theorem dX7_mount_110 : decode cX7_mount 110 = .ok (.iastore, 1) := dk_79 (dk_at dksX7_mount_4 15 rfl rfl)
theorem dX7_mount_111 : decode cX7_mount 111 = .ok (.return_, 1) := dk_177 (dk_at dksX7_mount_4 16 rfl rfl)
abbrev cX7_commit : ByteArray := prog_17_method_51_code
def yX7_commit : MethodName := ⟨RX7, "commit", "(I)I"⟩
def dkwX7_commit_5 : List UInt8 := [167, 255, 194, 42, 42, 180, 0, 53, 28, 46, 5, 182, 1, 66, 172]
abbrev dktX7_commit_5 : List UInt8 := dkwX7_commit_5 ++ []
def dkwX7_commit_4 : List UInt8 := [29, 96, 46, 79, 42, 180, 0, 37, 29, 42, 180, 0, 75, 16, 24, 28, 104, 29, 96, 46, 79, 132, 3, 1]
abbrev dktX7_commit_4 : List UInt8 := dkwX7_commit_4 ++ dktX7_commit_5
def dkwX7_commit_3 : List UInt8 := [180, 0, 69, 16, 24, 28, 104, 29, 96, 46, 79, 42, 180, 0, 34, 29, 42, 180, 0, 72, 16, 24, 28, 104]
abbrev dktX7_commit_3 : List UInt8 := dkwX7_commit_3 ++ dktX7_commit_4
def dkwX7_commit_2 : List UInt8 := [180, 0, 66, 28, 46, 181, 0, 234, 3, 62, 29, 42, 180, 0, 234, 162, 0, 60, 42, 180, 0, 31, 29, 42]
abbrev dktX7_commit_2 : List UInt8 := dkwX7_commit_2 ++ dktX7_commit_3
def dkwX7_commit_1 : List UInt8 := [164, 0, 7, 5, 167, 0, 4, 3, 181, 0, 189, 42, 180, 0, 189, 158, 0, 5, 3, 172, 42, 42]
abbrev dktX7_commit_1 : List UInt8 := dkwX7_commit_1 ++ dktX7_commit_2
def dkwX7_commit_0 : List UInt8 := [42, 27, 182, 1, 24, 61, 42, 28, 2, 160, 0, 7, 4, 167, 0, 19, 42, 180, 0, 66, 28, 46, 16, 10]
abbrev dktX7_commit_0 : List UInt8 := dkwX7_commit_0 ++ dktX7_commit_1
theorem dksX7_commit_0 : cX7_commit.data.toList.drop 0 = dktX7_commit_0 := by decide +kernel
theorem dksX7_commit_1 : cX7_commit.data.toList.drop 24 = dktX7_commit_1 := dk_seg dksX7_commit_0 24 rfl rfl
theorem dksX7_commit_2 : cX7_commit.data.toList.drop 46 = dktX7_commit_2 := dk_seg dksX7_commit_1 22 rfl rfl
theorem dksX7_commit_3 : cX7_commit.data.toList.drop 70 = dktX7_commit_3 := dk_seg dksX7_commit_2 24 rfl rfl
theorem dksX7_commit_4 : cX7_commit.data.toList.drop 94 = dktX7_commit_4 := dk_seg dksX7_commit_3 24 rfl rfl
theorem dksX7_commit_5 : cX7_commit.data.toList.drop 118 = dktX7_commit_5 := dk_seg dksX7_commit_4 24 rfl rfl
theorem dX7_commit_0 : decode cX7_commit 0 = .ok (.aload_n 0, 1) := dk_42 (dk_at dksX7_commit_0 0 rfl rfl)
theorem dX7_commit_1 : decode cX7_commit 1 = .ok (.iload_n 1, 1) := dk_27 (dk_at dksX7_commit_0 1 rfl rfl)
theorem dX7_commit_2 : decode cX7_commit 2 = .ok (.invokevirtual 280, 3) := dk_182 1 24 (dk_at dksX7_commit_0 2 rfl rfl)
theorem dX7_commit_5 : decode cX7_commit 5 = .ok (.istore_n 2, 1) := dk_61 (dk_at dksX7_commit_0 5 rfl rfl)
theorem dX7_commit_6 : decode cX7_commit 6 = .ok (.aload_n 0, 1) := dk_42 (dk_at dksX7_commit_0 6 rfl rfl)
theorem dX7_commit_7 : decode cX7_commit 7 = .ok (.iload_n 2, 1) := dk_28 (dk_at dksX7_commit_0 7 rfl rfl)
theorem dX7_commit_8 : decode cX7_commit 8 = .ok (.iconst (-1), 1) := dk_2 (dk_at dksX7_commit_0 8 rfl rfl)
theorem dX7_commit_9 : decode cX7_commit 9 = .ok (.if_icmp .ne 7, 3) := dk_160 0 7 (dk_at dksX7_commit_0 9 rfl rfl)
theorem dX7_commit_12 : decode cX7_commit 12 = .ok (.iconst 1, 1) := dk_4 (dk_at dksX7_commit_0 12 rfl rfl)
theorem dX7_commit_13 : decode cX7_commit 13 = .ok (.goto 19, 3) := dk_167 0 19 (dk_at dksX7_commit_0 13 rfl rfl)
theorem dX7_commit_16 : decode cX7_commit 16 = .ok (.aload_n 0, 1) := dk_42 (dk_at dksX7_commit_0 16 rfl rfl)
theorem dX7_commit_17 : decode cX7_commit 17 = .ok (.getfield 66, 3) := dk_180 0 66 (dk_at dksX7_commit_0 17 rfl rfl)
theorem dX7_commit_20 : decode cX7_commit 20 = .ok (.iload_n 2, 1) := dk_28 (dk_at dksX7_commit_0 20 rfl rfl)
theorem dX7_commit_21 : decode cX7_commit 21 = .ok (.iaload, 1) := dk_46 (dk_at dksX7_commit_0 21 rfl rfl)
theorem dX7_commit_22 : decode cX7_commit 22 = .ok (.bipush 10, 2) := dk_16 10 (dk_at dksX7_commit_0 22 rfl rfl)
theorem dX7_commit_24 : decode cX7_commit 24 = .ok (.if_icmp .le 7, 3) := dk_164 0 7 (dk_at dksX7_commit_1 0 rfl rfl)
theorem dX7_commit_27 : decode cX7_commit 27 = .ok (.iconst 2, 1) := dk_5 (dk_at dksX7_commit_1 3 rfl rfl)
theorem dX7_commit_28 : decode cX7_commit 28 = .ok (.goto 4, 3) := dk_167 0 4 (dk_at dksX7_commit_1 4 rfl rfl)
theorem dX7_commit_31 : decode cX7_commit 31 = .ok (.iconst 0, 1) := dk_3 (dk_at dksX7_commit_1 7 rfl rfl)
theorem dX7_commit_32 : decode cX7_commit 32 = .ok (.putfield 189, 3) := dk_181 0 189 (dk_at dksX7_commit_1 8 rfl rfl)
theorem dX7_commit_35 : decode cX7_commit 35 = .ok (.aload_n 0, 1) := dk_42 (dk_at dksX7_commit_1 11 rfl rfl)
theorem dX7_commit_36 : decode cX7_commit 36 = .ok (.getfield 189, 3) := dk_180 0 189 (dk_at dksX7_commit_1 12 rfl rfl)
theorem dX7_commit_39 : decode cX7_commit 39 = .ok (.ifCond .le 5, 3) := dk_158 0 5 (dk_at dksX7_commit_1 15 rfl rfl)
theorem dX7_commit_42 : decode cX7_commit 42 = .ok (.iconst 0, 1) := dk_3 (dk_at dksX7_commit_1 18 rfl rfl)
theorem dX7_commit_43 : decode cX7_commit 43 = .ok (.ireturn, 1) := dk_172 (dk_at dksX7_commit_1 19 rfl rfl)
theorem dX7_commit_44 : decode cX7_commit 44 = .ok (.aload_n 0, 1) := dk_42 (dk_at dksX7_commit_1 20 rfl rfl)
theorem dX7_commit_45 : decode cX7_commit 45 = .ok (.aload_n 0, 1) := dk_42 (dk_at dksX7_commit_1 21 rfl rfl)
theorem dX7_commit_46 : decode cX7_commit 46 = .ok (.getfield 66, 3) := dk_180 0 66 (dk_at dksX7_commit_2 0 rfl rfl)
theorem dX7_commit_49 : decode cX7_commit 49 = .ok (.iload_n 2, 1) := dk_28 (dk_at dksX7_commit_2 3 rfl rfl)
theorem dX7_commit_50 : decode cX7_commit 50 = .ok (.iaload, 1) := dk_46 (dk_at dksX7_commit_2 4 rfl rfl)
theorem dX7_commit_51 : decode cX7_commit 51 = .ok (.putfield 234, 3) := dk_181 0 234 (dk_at dksX7_commit_2 5 rfl rfl)
theorem dX7_commit_54 : decode cX7_commit 54 = .ok (.iconst 0, 1) := dk_3 (dk_at dksX7_commit_2 8 rfl rfl)
theorem dX7_commit_55 : decode cX7_commit 55 = .ok (.istore_n 3, 1) := dk_62 (dk_at dksX7_commit_2 9 rfl rfl)
theorem dX7_commit_56 : decode cX7_commit 56 = .ok (.iload_n 3, 1) := dk_29 (dk_at dksX7_commit_2 10 rfl rfl)
theorem dX7_commit_57 : decode cX7_commit 57 = .ok (.aload_n 0, 1) := dk_42 (dk_at dksX7_commit_2 11 rfl rfl)
theorem dX7_commit_58 : decode cX7_commit 58 = .ok (.getfield 234, 3) := dk_180 0 234 (dk_at dksX7_commit_2 12 rfl rfl)
theorem dX7_commit_61 : decode cX7_commit 61 = .ok (.if_icmp .ge 60, 3) := dk_162 0 60 (dk_at dksX7_commit_2 15 rfl rfl)
theorem dX7_commit_64 : decode cX7_commit 64 = .ok (.aload_n 0, 1) := dk_42 (dk_at dksX7_commit_2 18 rfl rfl)
theorem dX7_commit_65 : decode cX7_commit 65 = .ok (.getfield 31, 3) := dk_180 0 31 (dk_at dksX7_commit_2 19 rfl rfl)
theorem dX7_commit_68 : decode cX7_commit 68 = .ok (.iload_n 3, 1) := dk_29 (dk_at dksX7_commit_2 22 rfl rfl)
theorem dX7_commit_69 : decode cX7_commit 69 = .ok (.aload_n 0, 1) := dk_42 (dk_at dksX7_commit_2 23 rfl rfl)
theorem dX7_commit_70 : decode cX7_commit 70 = .ok (.getfield 69, 3) := dk_180 0 69 (dk_at dksX7_commit_3 0 rfl rfl)
theorem dX7_commit_73 : decode cX7_commit 73 = .ok (.bipush 24, 2) := dk_16 24 (dk_at dksX7_commit_3 3 rfl rfl)
theorem dX7_commit_75 : decode cX7_commit 75 = .ok (.iload_n 2, 1) := dk_28 (dk_at dksX7_commit_3 5 rfl rfl)
theorem dX7_commit_76 : decode cX7_commit 76 = .ok (.imul, 1) := dk_104 (dk_at dksX7_commit_3 6 rfl rfl)
theorem dX7_commit_77 : decode cX7_commit 77 = .ok (.iload_n 3, 1) := dk_29 (dk_at dksX7_commit_3 7 rfl rfl)
theorem dX7_commit_78 : decode cX7_commit 78 = .ok (.iadd, 1) := dk_96 (dk_at dksX7_commit_3 8 rfl rfl)
theorem dX7_commit_79 : decode cX7_commit 79 = .ok (.iaload, 1) := dk_46 (dk_at dksX7_commit_3 9 rfl rfl)
theorem dX7_commit_80 : decode cX7_commit 80 = .ok (.iastore, 1) := dk_79 (dk_at dksX7_commit_3 10 rfl rfl)
theorem dX7_commit_81 : decode cX7_commit 81 = .ok (.aload_n 0, 1) := dk_42 (dk_at dksX7_commit_3 11 rfl rfl)
theorem dX7_commit_82 : decode cX7_commit 82 = .ok (.getfield 34, 3) := dk_180 0 34 (dk_at dksX7_commit_3 12 rfl rfl)
theorem dX7_commit_85 : decode cX7_commit 85 = .ok (.iload_n 3, 1) := dk_29 (dk_at dksX7_commit_3 15 rfl rfl)
theorem dX7_commit_86 : decode cX7_commit 86 = .ok (.aload_n 0, 1) := dk_42 (dk_at dksX7_commit_3 16 rfl rfl)
theorem dX7_commit_87 : decode cX7_commit 87 = .ok (.getfield 72, 3) := dk_180 0 72 (dk_at dksX7_commit_3 17 rfl rfl)
theorem dX7_commit_90 : decode cX7_commit 90 = .ok (.bipush 24, 2) := dk_16 24 (dk_at dksX7_commit_3 20 rfl rfl)
theorem dX7_commit_92 : decode cX7_commit 92 = .ok (.iload_n 2, 1) := dk_28 (dk_at dksX7_commit_3 22 rfl rfl)
theorem dX7_commit_93 : decode cX7_commit 93 = .ok (.imul, 1) := dk_104 (dk_at dksX7_commit_3 23 rfl rfl)
theorem dX7_commit_94 : decode cX7_commit 94 = .ok (.iload_n 3, 1) := dk_29 (dk_at dksX7_commit_4 0 rfl rfl)
theorem dX7_commit_95 : decode cX7_commit 95 = .ok (.iadd, 1) := dk_96 (dk_at dksX7_commit_4 1 rfl rfl)
theorem dX7_commit_96 : decode cX7_commit 96 = .ok (.iaload, 1) := dk_46 (dk_at dksX7_commit_4 2 rfl rfl)
theorem dX7_commit_97 : decode cX7_commit 97 = .ok (.iastore, 1) := dk_79 (dk_at dksX7_commit_4 3 rfl rfl)
theorem dX7_commit_98 : decode cX7_commit 98 = .ok (.aload_n 0, 1) := dk_42 (dk_at dksX7_commit_4 4 rfl rfl)
theorem dX7_commit_99 : decode cX7_commit 99 = .ok (.getfield 37, 3) := dk_180 0 37 (dk_at dksX7_commit_4 5 rfl rfl)
theorem dX7_commit_102 : decode cX7_commit 102 = .ok (.iload_n 3, 1) := dk_29 (dk_at dksX7_commit_4 8 rfl rfl)
theorem dX7_commit_103 : decode cX7_commit 103 = .ok (.aload_n 0, 1) := dk_42 (dk_at dksX7_commit_4 9 rfl rfl)
theorem dX7_commit_104 : decode cX7_commit 104 = .ok (.getfield 75, 3) := dk_180 0 75 (dk_at dksX7_commit_4 10 rfl rfl)
theorem dX7_commit_107 : decode cX7_commit 107 = .ok (.bipush 24, 2) := dk_16 24 (dk_at dksX7_commit_4 13 rfl rfl)
theorem dX7_commit_109 : decode cX7_commit 109 = .ok (.iload_n 2, 1) := dk_28 (dk_at dksX7_commit_4 15 rfl rfl)
theorem dX7_commit_110 : decode cX7_commit 110 = .ok (.imul, 1) := dk_104 (dk_at dksX7_commit_4 16 rfl rfl)
theorem dX7_commit_111 : decode cX7_commit 111 = .ok (.iload_n 3, 1) := dk_29 (dk_at dksX7_commit_4 17 rfl rfl)
theorem dX7_commit_112 : decode cX7_commit 112 = .ok (.iadd, 1) := dk_96 (dk_at dksX7_commit_4 18 rfl rfl)
theorem dX7_commit_113 : decode cX7_commit 113 = .ok (.iaload, 1) := dk_46 (dk_at dksX7_commit_4 19 rfl rfl)
theorem dX7_commit_114 : decode cX7_commit 114 = .ok (.iastore, 1) := dk_79 (dk_at dksX7_commit_4 20 rfl rfl)
theorem dX7_commit_115 : decode cX7_commit 115 = .ok (.iinc 3 1, 3) := dk_132 3 1 (dk_at dksX7_commit_4 21 rfl rfl)
theorem dX7_commit_118 : decode cX7_commit 118 = .ok (.goto (-62), 3) := dk_167 255 194 (dk_at dksX7_commit_5 0 rfl rfl)
theorem dX7_commit_121 : decode cX7_commit 121 = .ok (.aload_n 0, 1) := dk_42 (dk_at dksX7_commit_5 3 rfl rfl)
theorem dX7_commit_122 : decode cX7_commit 122 = .ok (.aload_n 0, 1) := dk_42 (dk_at dksX7_commit_5 4 rfl rfl)
theorem dX7_commit_123 : decode cX7_commit 123 = .ok (.getfield 53, 3) := dk_180 0 53 (dk_at dksX7_commit_5 5 rfl rfl)
theorem dX7_commit_126 : decode cX7_commit 126 = .ok (.iload_n 2, 1) := dk_28 (dk_at dksX7_commit_5 8 rfl rfl)
theorem dX7_commit_127 : decode cX7_commit 127 = .ok (.iaload, 1) := dk_46 (dk_at dksX7_commit_5 9 rfl rfl)
theorem dX7_commit_128 : decode cX7_commit 128 = .ok (.iconst 2, 1) := dk_5 (dk_at dksX7_commit_5 10 rfl rfl)
theorem dX7_commit_129 : decode cX7_commit 129 = .ok (.invokevirtual 322, 3) := dk_182 1 66 (dk_at dksX7_commit_5 11 rfl rfl)
theorem dX7_commit_132 : decode cX7_commit 132 = .ok (.ireturn, 1) := dk_172 (dk_at dksX7_commit_5 14 rfl rfl)
abbrev cX7_makes : ByteArray := prog_17_method_52_code
def yX7_makes : MethodName := ⟨RX7, "makes", "(II)I"⟩
def dkwX7_makes_1 : List UInt8 := [182, 0, 253, 154, 0, 11, 42, 28, 182, 0, 228, 167, 0, 12, 42, 27, 42, 182, 0, 244, 182, 1, 0, 172]
abbrev dktX7_makes_1 : List UInt8 := dkwX7_makes_1 ++ []
def dkwX7_makes_0 : List UInt8 := [42, 182, 0, 237, 62, 29, 2, 160, 0, 12, 42, 180, 0, 231, 16, 20, 159, 0, 12, 42, 27, 29]
abbrev dktX7_makes_0 : List UInt8 := dkwX7_makes_0 ++ dktX7_makes_1
theorem dksX7_makes_0 : cX7_makes.data.toList.drop 0 = dktX7_makes_0 := by decide +kernel
theorem dksX7_makes_1 : cX7_makes.data.toList.drop 22 = dktX7_makes_1 := dk_seg dksX7_makes_0 22 rfl rfl
theorem dX7_makes_0 : decode cX7_makes 0 = .ok (.aload_n 0, 1) := dk_42 (dk_at dksX7_makes_0 0 rfl rfl)
theorem dX7_makes_1 : decode cX7_makes 1 = .ok (.invokevirtual 237, 3) := dk_182 0 237 (dk_at dksX7_makes_0 1 rfl rfl)
theorem dX7_makes_4 : decode cX7_makes 4 = .ok (.istore_n 3, 1) := dk_62 (dk_at dksX7_makes_0 4 rfl rfl)
theorem dX7_makes_5 : decode cX7_makes 5 = .ok (.iload_n 3, 1) := dk_29 (dk_at dksX7_makes_0 5 rfl rfl)
theorem dX7_makes_6 : decode cX7_makes 6 = .ok (.iconst (-1), 1) := dk_2 (dk_at dksX7_makes_0 6 rfl rfl)
theorem dX7_makes_7 : decode cX7_makes 7 = .ok (.if_icmp .ne 12, 3) := dk_160 0 12 (dk_at dksX7_makes_0 7 rfl rfl)
theorem dX7_makes_10 : decode cX7_makes 10 = .ok (.aload_n 0, 1) := dk_42 (dk_at dksX7_makes_0 10 rfl rfl)
theorem dX7_makes_11 : decode cX7_makes 11 = .ok (.getfield 231, 3) := dk_180 0 231 (dk_at dksX7_makes_0 11 rfl rfl)
theorem dX7_makes_14 : decode cX7_makes 14 = .ok (.bipush 20, 2) := dk_16 20 (dk_at dksX7_makes_0 14 rfl rfl)
theorem dX7_makes_16 : decode cX7_makes 16 = .ok (.if_icmp .eq 12, 3) := dk_159 0 12 (dk_at dksX7_makes_0 16 rfl rfl)
theorem dX7_makes_19 : decode cX7_makes 19 = .ok (.aload_n 0, 1) := dk_42 (dk_at dksX7_makes_0 19 rfl rfl)
theorem dX7_makes_20 : decode cX7_makes 20 = .ok (.iload_n 1, 1) := dk_27 (dk_at dksX7_makes_0 20 rfl rfl)
theorem dX7_makes_21 : decode cX7_makes 21 = .ok (.iload_n 3, 1) := dk_29 (dk_at dksX7_makes_0 21 rfl rfl)
theorem dX7_makes_22 : decode cX7_makes 22 = .ok (.invokevirtual 253, 3) := dk_182 0 253 (dk_at dksX7_makes_1 0 rfl rfl)
theorem dX7_makes_25 : decode cX7_makes 25 = .ok (.ifCond .ne 11, 3) := dk_154 0 11 (dk_at dksX7_makes_1 3 rfl rfl)
theorem dX7_makes_28 : decode cX7_makes 28 = .ok (.aload_n 0, 1) := dk_42 (dk_at dksX7_makes_1 6 rfl rfl)
theorem dX7_makes_29 : decode cX7_makes 29 = .ok (.iload_n 2, 1) := dk_28 (dk_at dksX7_makes_1 7 rfl rfl)
theorem dX7_makes_30 : decode cX7_makes 30 = .ok (.invokevirtual 228, 3) := dk_182 0 228 (dk_at dksX7_makes_1 8 rfl rfl)
theorem dX7_makes_33 : decode cX7_makes 33 = .ok (.goto 12, 3) := dk_167 0 12 (dk_at dksX7_makes_1 11 rfl rfl)
theorem dX7_makes_36 : decode cX7_makes 36 = .ok (.aload_n 0, 1) := dk_42 (dk_at dksX7_makes_1 14 rfl rfl)
theorem dX7_makes_37 : decode cX7_makes 37 = .ok (.iload_n 1, 1) := dk_27 (dk_at dksX7_makes_1 15 rfl rfl)
theorem dX7_makes_38 : decode cX7_makes 38 = .ok (.aload_n 0, 1) := dk_42 (dk_at dksX7_makes_1 16 rfl rfl)
theorem dX7_makes_39 : decode cX7_makes 39 = .ok (.invokevirtual 244, 3) := dk_182 0 244 (dk_at dksX7_makes_1 17 rfl rfl)
theorem dX7_makes_42 : decode cX7_makes 42 = .ok (.invokevirtual 256, 3) := dk_182 1 0 (dk_at dksX7_makes_1 20 rfl rfl)
theorem dX7_makes_45 : decode cX7_makes 45 = .ok (.ireturn, 1) := dk_172 (dk_at dksX7_makes_1 23 rfl rfl)
abbrev cX7_user : ByteArray := prog_17_method_54_code
def yX7_user : MethodName := ⟨RX7, "user", "(I)I"⟩
def dkwX7_user_2 : List UInt8 := [27, 79, 42, 89, 180, 0, 111, 4, 96, 181, 0, 111, 42, 180, 0, 111, 4, 100, 172]
abbrev dktX7_user_2 : List UInt8 := dkwX7_user_2 ++ []
def dkwX7_user_1 : List UInt8 := [167, 0, 4, 3, 181, 0, 189, 42, 180, 0, 189, 158, 0, 5, 3, 172, 42, 180, 0, 114, 42, 180, 0, 111]
abbrev dktX7_user_1 : List UInt8 := dkwX7_user_1 ++ dktX7_user_2
def dkwX7_user_0 : List UInt8 := [42, 42, 27, 182, 1, 69, 154, 0, 7, 4, 167, 0, 17, 42, 180, 0, 111, 16, 8, 160, 0, 7, 5]
abbrev dktX7_user_0 : List UInt8 := dkwX7_user_0 ++ dktX7_user_1
theorem dksX7_user_0 : cX7_user.data.toList.drop 0 = dktX7_user_0 := by decide +kernel
theorem dksX7_user_1 : cX7_user.data.toList.drop 23 = dktX7_user_1 := dk_seg dksX7_user_0 23 rfl rfl
theorem dksX7_user_2 : cX7_user.data.toList.drop 47 = dktX7_user_2 := dk_seg dksX7_user_1 24 rfl rfl
theorem dX7_user_0 : decode cX7_user 0 = .ok (.aload_n 0, 1) := dk_42 (dk_at dksX7_user_0 0 rfl rfl)
theorem dX7_user_1 : decode cX7_user 1 = .ok (.aload_n 0, 1) := dk_42 (dk_at dksX7_user_0 1 rfl rfl)
theorem dX7_user_2 : decode cX7_user 2 = .ok (.iload_n 1, 1) := dk_27 (dk_at dksX7_user_0 2 rfl rfl)
theorem dX7_user_3 : decode cX7_user 3 = .ok (.invokevirtual 325, 3) := dk_182 1 69 (dk_at dksX7_user_0 3 rfl rfl)
theorem dX7_user_6 : decode cX7_user 6 = .ok (.ifCond .ne 7, 3) := dk_154 0 7 (dk_at dksX7_user_0 6 rfl rfl)
theorem dX7_user_9 : decode cX7_user 9 = .ok (.iconst 1, 1) := dk_4 (dk_at dksX7_user_0 9 rfl rfl)
theorem dX7_user_10 : decode cX7_user 10 = .ok (.goto 17, 3) := dk_167 0 17 (dk_at dksX7_user_0 10 rfl rfl)
theorem dX7_user_13 : decode cX7_user 13 = .ok (.aload_n 0, 1) := dk_42 (dk_at dksX7_user_0 13 rfl rfl)
theorem dX7_user_14 : decode cX7_user 14 = .ok (.getfield 111, 3) := dk_180 0 111 (dk_at dksX7_user_0 14 rfl rfl)
theorem dX7_user_17 : decode cX7_user 17 = .ok (.bipush 8, 2) := dk_16 8 (dk_at dksX7_user_0 17 rfl rfl)
theorem dX7_user_19 : decode cX7_user 19 = .ok (.if_icmp .ne 7, 3) := dk_160 0 7 (dk_at dksX7_user_0 19 rfl rfl)
theorem dX7_user_22 : decode cX7_user 22 = .ok (.iconst 2, 1) := dk_5 (dk_at dksX7_user_0 22 rfl rfl)
theorem dX7_user_23 : decode cX7_user 23 = .ok (.goto 4, 3) := dk_167 0 4 (dk_at dksX7_user_1 0 rfl rfl)
theorem dX7_user_26 : decode cX7_user 26 = .ok (.iconst 0, 1) := dk_3 (dk_at dksX7_user_1 3 rfl rfl)
theorem dX7_user_27 : decode cX7_user 27 = .ok (.putfield 189, 3) := dk_181 0 189 (dk_at dksX7_user_1 4 rfl rfl)
theorem dX7_user_30 : decode cX7_user 30 = .ok (.aload_n 0, 1) := dk_42 (dk_at dksX7_user_1 7 rfl rfl)
theorem dX7_user_31 : decode cX7_user 31 = .ok (.getfield 189, 3) := dk_180 0 189 (dk_at dksX7_user_1 8 rfl rfl)
theorem dX7_user_34 : decode cX7_user 34 = .ok (.ifCond .le 5, 3) := dk_158 0 5 (dk_at dksX7_user_1 11 rfl rfl)
theorem dX7_user_37 : decode cX7_user 37 = .ok (.iconst 0, 1) := dk_3 (dk_at dksX7_user_1 14 rfl rfl)
theorem dX7_user_38 : decode cX7_user 38 = .ok (.ireturn, 1) := dk_172 (dk_at dksX7_user_1 15 rfl rfl)
theorem dX7_user_39 : decode cX7_user 39 = .ok (.aload_n 0, 1) := dk_42 (dk_at dksX7_user_1 16 rfl rfl)
theorem dX7_user_40 : decode cX7_user 40 = .ok (.getfield 114, 3) := dk_180 0 114 (dk_at dksX7_user_1 17 rfl rfl)
theorem dX7_user_43 : decode cX7_user 43 = .ok (.aload_n 0, 1) := dk_42 (dk_at dksX7_user_1 20 rfl rfl)
theorem dX7_user_44 : decode cX7_user 44 = .ok (.getfield 111, 3) := dk_180 0 111 (dk_at dksX7_user_1 21 rfl rfl)
theorem dX7_user_47 : decode cX7_user 47 = .ok (.iload_n 1, 1) := dk_27 (dk_at dksX7_user_2 0 rfl rfl)
theorem dX7_user_48 : decode cX7_user 48 = .ok (.iastore, 1) := dk_79 (dk_at dksX7_user_2 1 rfl rfl)
theorem dX7_user_49 : decode cX7_user 49 = .ok (.aload_n 0, 1) := dk_42 (dk_at dksX7_user_2 2 rfl rfl)
theorem dX7_user_50 : decode cX7_user 50 = .ok (.dup, 1) := dk_89 (dk_at dksX7_user_2 3 rfl rfl)
theorem dX7_user_51 : decode cX7_user 51 = .ok (.getfield 111, 3) := dk_180 0 111 (dk_at dksX7_user_2 4 rfl rfl)
theorem dX7_user_54 : decode cX7_user 54 = .ok (.iconst 1, 1) := dk_4 (dk_at dksX7_user_2 7 rfl rfl)
theorem dX7_user_55 : decode cX7_user 55 = .ok (.iadd, 1) := dk_96 (dk_at dksX7_user_2 8 rfl rfl)
theorem dX7_user_56 : decode cX7_user 56 = .ok (.putfield 111, 3) := dk_181 0 111 (dk_at dksX7_user_2 9 rfl rfl)
theorem dX7_user_59 : decode cX7_user 59 = .ok (.aload_n 0, 1) := dk_42 (dk_at dksX7_user_2 12 rfl rfl)
theorem dX7_user_60 : decode cX7_user 60 = .ok (.getfield 111, 3) := dk_180 0 111 (dk_at dksX7_user_2 13 rfl rfl)
theorem dX7_user_63 : decode cX7_user 63 = .ok (.iconst 1, 1) := dk_4 (dk_at dksX7_user_2 16 rfl rfl)
theorem dX7_user_64 : decode cX7_user 64 = .ok (.isub, 1) := dk_100 (dk_at dksX7_user_2 17 rfl rfl)
theorem dX7_user_65 : decode cX7_user 65 = .ok (.ireturn, 1) := dk_172 (dk_at dksX7_user_2 18 rfl rfl)
abbrev cX7_isUser : ByteArray := prog_17_method_53_code
def yX7_isUser : MethodName := ⟨RX7, "isUser", "(I)Z"⟩
def dkwX7_isUser_0 : List UInt8 := [27, 3, 42, 180, 0, 111, 4, 100, 184, 0, 192, 172]
abbrev dktX7_isUser_0 : List UInt8 := dkwX7_isUser_0 ++ []
theorem dksX7_isUser_0 : cX7_isUser.data.toList.drop 0 = dktX7_isUser_0 := by decide +kernel
theorem dX7_isUser_0 : decode cX7_isUser 0 = .ok (.iload_n 1, 1) := dk_27 (dk_at dksX7_isUser_0 0 rfl rfl)
theorem dX7_isUser_1 : decode cX7_isUser 1 = .ok (.iconst 0, 1) := dk_3 (dk_at dksX7_isUser_0 1 rfl rfl)
theorem dX7_isUser_2 : decode cX7_isUser 2 = .ok (.aload_n 0, 1) := dk_42 (dk_at dksX7_isUser_0 2 rfl rfl)
theorem dX7_isUser_3 : decode cX7_isUser 3 = .ok (.getfield 111, 3) := dk_180 0 111 (dk_at dksX7_isUser_0 3 rfl rfl)
theorem dX7_isUser_6 : decode cX7_isUser 6 = .ok (.iconst 1, 1) := dk_4 (dk_at dksX7_isUser_0 6 rfl rfl)
theorem dX7_isUser_7 : decode cX7_isUser 7 = .ok (.isub, 1) := dk_100 (dk_at dksX7_isUser_0 7 rfl rfl)
theorem dX7_isUser_8 : decode cX7_isUser 8 = .ok (.invokestatic 192, 3) := dk_184 0 192 (dk_at dksX7_isUser_0 8 rfl rfl)
theorem dX7_isUser_11 : decode cX7_isUser 11 = .ok (.ireturn, 1) := dk_172 (dk_at dksX7_isUser_0 11 rfl rfl)
abbrev cX7_range : ByteArray := prog_17_method_56_code
def yX7_range : MethodName := ⟨RX7, "range", "(IIII)I"⟩
def dkwX7_range_10 : List UInt8 := [21, 6, 21, 4, 79, 42, 180, 0, 117, 27, 92, 46, 4, 96, 79, 42, 180, 0, 117, 27, 46, 172]
abbrev dktX7_range_10 : List UInt8 := dkwX7_range_10 ++ []
def dkwX7_range_9 : List UInt8 := [96, 54, 6, 42, 180, 0, 120, 21, 6, 28, 79, 42, 180, 0, 123, 21, 6, 29, 79, 42, 180, 0, 126]
abbrev dktX7_range_9 : List UInt8 := dkwX7_range_9 ++ dktX7_range_10
def dkwX7_range_8 : List UInt8 := [132, 6, 1, 167, 255, 176, 42, 180, 0, 189, 158, 0, 5, 3, 172, 6, 27, 104, 42, 180, 0, 117, 27, 46]
abbrev dktX7_range_8 : List UInt8 := dkwX7_range_8 ++ dktX7_range_9
def dkwX7_range_7 : List UInt8 := [21, 6, 46, 42, 180, 0, 126, 21, 6, 46, 184, 1, 72, 153, 0, 7, 6, 167, 0, 4, 3, 181, 0, 189]
abbrev dktX7_range_7 : List UInt8 := dkwX7_range_7 ++ dktX7_range_8
def dkwX7_range_6 : List UInt8 := [21, 6, 46, 42, 180, 0, 126, 21, 6, 46, 184, 1, 72, 154, 0, 26, 29, 21, 4, 42, 180, 0, 123]
abbrev dktX7_range_6 : List UInt8 := dkwX7_range_6 ++ dktX7_range_7
def dkwX7_range_5 : List UInt8 := [21, 6, 6, 27, 104, 42, 180, 0, 117, 27, 46, 96, 162, 0, 64, 42, 28, 21, 4, 42, 180, 0, 120]
abbrev dktX7_range_5 : List UInt8 := dkwX7_range_5 ++ dktX7_range_6
def dkwX7_range_4 : List UInt8 := [160, 0, 7, 6, 167, 0, 4, 3, 181, 0, 189, 6, 27, 104, 54, 6, 42, 180, 0, 189, 154, 0, 79]
abbrev dktX7_range_4 : List UInt8 := dkwX7_range_4 ++ dktX7_range_5
def dkwX7_range_3 : List UInt8 := [167, 0, 31, 21, 5, 154, 0, 7, 5, 167, 0, 22, 27, 153, 0, 13, 42, 180, 0, 117, 27, 46, 6]
abbrev dktX7_range_3 : List UInt8 := dkwX7_range_3 ++ dktX7_range_4
def dkwX7_range_2 : List UInt8 := [17, 3, 232, 163, 0, 7, 4, 167, 0, 4, 3, 54, 5, 42, 42, 27, 182, 1, 69, 154, 0, 7, 4]
abbrev dktX7_range_2 : List UInt8 := dkwX7_range_2 ++ dktX7_range_3
def dkwX7_range_1 : List UInt8 := [4, 17, 3, 232, 184, 0, 192, 153, 0, 27, 28, 21, 4, 96, 17, 3, 232, 163, 0, 17, 29, 21, 4, 96]
abbrev dktX7_range_1 : List UInt8 := dkwX7_range_1 ++ dktX7_range_2
def dkwX7_range_0 : List UInt8 := [28, 3, 17, 3, 231, 184, 0, 192, 153, 0, 50, 29, 3, 17, 3, 231, 184, 0, 192, 153, 0, 39, 21, 4]
abbrev dktX7_range_0 : List UInt8 := dkwX7_range_0 ++ dktX7_range_1
theorem dksX7_range_0 : cX7_range.data.toList.drop 0 = dktX7_range_0 := by decide +kernel
theorem dksX7_range_1 : cX7_range.data.toList.drop 24 = dktX7_range_1 := dk_seg dksX7_range_0 24 rfl rfl
theorem dksX7_range_2 : cX7_range.data.toList.drop 48 = dktX7_range_2 := dk_seg dksX7_range_1 24 rfl rfl
theorem dksX7_range_3 : cX7_range.data.toList.drop 71 = dktX7_range_3 := dk_seg dksX7_range_2 23 rfl rfl
theorem dksX7_range_4 : cX7_range.data.toList.drop 94 = dktX7_range_4 := dk_seg dksX7_range_3 23 rfl rfl
theorem dksX7_range_5 : cX7_range.data.toList.drop 117 = dktX7_range_5 := dk_seg dksX7_range_4 23 rfl rfl
theorem dksX7_range_6 : cX7_range.data.toList.drop 140 = dktX7_range_6 := dk_seg dksX7_range_5 23 rfl rfl
theorem dksX7_range_7 : cX7_range.data.toList.drop 163 = dktX7_range_7 := dk_seg dksX7_range_6 23 rfl rfl
theorem dksX7_range_8 : cX7_range.data.toList.drop 187 = dktX7_range_8 := dk_seg dksX7_range_7 24 rfl rfl
theorem dksX7_range_9 : cX7_range.data.toList.drop 211 = dktX7_range_9 := dk_seg dksX7_range_8 24 rfl rfl
theorem dksX7_range_10 : cX7_range.data.toList.drop 234 = dktX7_range_10 := dk_seg dksX7_range_9 23 rfl rfl
theorem dX7_range_0 : decode cX7_range 0 = .ok (.iload_n 2, 1) := dk_28 (dk_at dksX7_range_0 0 rfl rfl)
theorem dX7_range_1 : decode cX7_range 1 = .ok (.iconst 0, 1) := dk_3 (dk_at dksX7_range_0 1 rfl rfl)
theorem dX7_range_2 : decode cX7_range 2 = .ok (.sipush 999, 3) := dk_17 3 231 (dk_at dksX7_range_0 2 rfl rfl)
theorem dX7_range_5 : decode cX7_range 5 = .ok (.invokestatic 192, 3) := dk_184 0 192 (dk_at dksX7_range_0 5 rfl rfl)
theorem dX7_range_8 : decode cX7_range 8 = .ok (.ifCond .eq 50, 3) := dk_153 0 50 (dk_at dksX7_range_0 8 rfl rfl)
theorem dX7_range_11 : decode cX7_range 11 = .ok (.iload_n 3, 1) := dk_29 (dk_at dksX7_range_0 11 rfl rfl)
theorem dX7_range_12 : decode cX7_range 12 = .ok (.iconst 0, 1) := dk_3 (dk_at dksX7_range_0 12 rfl rfl)
theorem dX7_range_13 : decode cX7_range 13 = .ok (.sipush 999, 3) := dk_17 3 231 (dk_at dksX7_range_0 13 rfl rfl)
theorem dX7_range_16 : decode cX7_range 16 = .ok (.invokestatic 192, 3) := dk_184 0 192 (dk_at dksX7_range_0 16 rfl rfl)
theorem dX7_range_19 : decode cX7_range 19 = .ok (.ifCond .eq 39, 3) := dk_153 0 39 (dk_at dksX7_range_0 19 rfl rfl)
theorem dX7_range_22 : decode cX7_range 22 = .ok (.iload 4, 2) := dk_21 4 (dk_at dksX7_range_0 22 rfl rfl)
theorem dX7_range_24 : decode cX7_range 24 = .ok (.iconst 1, 1) := dk_4 (dk_at dksX7_range_1 0 rfl rfl)
theorem dX7_range_25 : decode cX7_range 25 = .ok (.sipush 1000, 3) := dk_17 3 232 (dk_at dksX7_range_1 1 rfl rfl)
theorem dX7_range_28 : decode cX7_range 28 = .ok (.invokestatic 192, 3) := dk_184 0 192 (dk_at dksX7_range_1 4 rfl rfl)
theorem dX7_range_31 : decode cX7_range 31 = .ok (.ifCond .eq 27, 3) := dk_153 0 27 (dk_at dksX7_range_1 7 rfl rfl)
theorem dX7_range_34 : decode cX7_range 34 = .ok (.iload_n 2, 1) := dk_28 (dk_at dksX7_range_1 10 rfl rfl)
theorem dX7_range_35 : decode cX7_range 35 = .ok (.iload 4, 2) := dk_21 4 (dk_at dksX7_range_1 11 rfl rfl)
theorem dX7_range_37 : decode cX7_range 37 = .ok (.iadd, 1) := dk_96 (dk_at dksX7_range_1 13 rfl rfl)
theorem dX7_range_38 : decode cX7_range 38 = .ok (.sipush 1000, 3) := dk_17 3 232 (dk_at dksX7_range_1 14 rfl rfl)
theorem dX7_range_41 : decode cX7_range 41 = .ok (.if_icmp .gt 17, 3) := dk_163 0 17 (dk_at dksX7_range_1 17 rfl rfl)
theorem dX7_range_44 : decode cX7_range 44 = .ok (.iload_n 3, 1) := dk_29 (dk_at dksX7_range_1 20 rfl rfl)
theorem dX7_range_45 : decode cX7_range 45 = .ok (.iload 4, 2) := dk_21 4 (dk_at dksX7_range_1 21 rfl rfl)
theorem dX7_range_47 : decode cX7_range 47 = .ok (.iadd, 1) := dk_96 (dk_at dksX7_range_1 23 rfl rfl)
theorem dX7_range_48 : decode cX7_range 48 = .ok (.sipush 1000, 3) := dk_17 3 232 (dk_at dksX7_range_2 0 rfl rfl)
theorem dX7_range_51 : decode cX7_range 51 = .ok (.if_icmp .gt 7, 3) := dk_163 0 7 (dk_at dksX7_range_2 3 rfl rfl)
theorem dX7_range_54 : decode cX7_range 54 = .ok (.iconst 1, 1) := dk_4 (dk_at dksX7_range_2 6 rfl rfl)
theorem dX7_range_55 : decode cX7_range 55 = .ok (.goto 4, 3) := dk_167 0 4 (dk_at dksX7_range_2 7 rfl rfl)
theorem dX7_range_58 : decode cX7_range 58 = .ok (.iconst 0, 1) := dk_3 (dk_at dksX7_range_2 10 rfl rfl)
theorem dX7_range_59 : decode cX7_range 59 = .ok (.istore 5, 2) := dk_54 5 (dk_at dksX7_range_2 11 rfl rfl)
theorem dX7_range_61 : decode cX7_range 61 = .ok (.aload_n 0, 1) := dk_42 (dk_at dksX7_range_2 13 rfl rfl)
theorem dX7_range_62 : decode cX7_range 62 = .ok (.aload_n 0, 1) := dk_42 (dk_at dksX7_range_2 14 rfl rfl)
theorem dX7_range_63 : decode cX7_range 63 = .ok (.iload_n 1, 1) := dk_27 (dk_at dksX7_range_2 15 rfl rfl)
theorem dX7_range_64 : decode cX7_range 64 = .ok (.invokevirtual 325, 3) := dk_182 1 69 (dk_at dksX7_range_2 16 rfl rfl)
theorem dX7_range_67 : decode cX7_range 67 = .ok (.ifCond .ne 7, 3) := dk_154 0 7 (dk_at dksX7_range_2 19 rfl rfl)
theorem dX7_range_70 : decode cX7_range 70 = .ok (.iconst 1, 1) := dk_4 (dk_at dksX7_range_2 22 rfl rfl)
theorem dX7_range_71 : decode cX7_range 71 = .ok (.goto 31, 3) := dk_167 0 31 (dk_at dksX7_range_3 0 rfl rfl)
theorem dX7_range_74 : decode cX7_range 74 = .ok (.iload 5, 2) := dk_21 5 (dk_at dksX7_range_3 3 rfl rfl)
theorem dX7_range_76 : decode cX7_range 76 = .ok (.ifCond .ne 7, 3) := dk_154 0 7 (dk_at dksX7_range_3 5 rfl rfl)
theorem dX7_range_79 : decode cX7_range 79 = .ok (.iconst 2, 1) := dk_5 (dk_at dksX7_range_3 8 rfl rfl)
theorem dX7_range_80 : decode cX7_range 80 = .ok (.goto 22, 3) := dk_167 0 22 (dk_at dksX7_range_3 9 rfl rfl)
theorem dX7_range_83 : decode cX7_range 83 = .ok (.iload_n 1, 1) := dk_27 (dk_at dksX7_range_3 12 rfl rfl)
theorem dX7_range_84 : decode cX7_range 84 = .ok (.ifCond .eq 13, 3) := dk_153 0 13 (dk_at dksX7_range_3 13 rfl rfl)
theorem dX7_range_87 : decode cX7_range 87 = .ok (.aload_n 0, 1) := dk_42 (dk_at dksX7_range_3 16 rfl rfl)
theorem dX7_range_88 : decode cX7_range 88 = .ok (.getfield 117, 3) := dk_180 0 117 (dk_at dksX7_range_3 17 rfl rfl)
theorem dX7_range_91 : decode cX7_range 91 = .ok (.iload_n 1, 1) := dk_27 (dk_at dksX7_range_3 20 rfl rfl)
theorem dX7_range_92 : decode cX7_range 92 = .ok (.iaload, 1) := dk_46 (dk_at dksX7_range_3 21 rfl rfl)
theorem dX7_range_93 : decode cX7_range 93 = .ok (.iconst 3, 1) := dk_6 (dk_at dksX7_range_3 22 rfl rfl)
theorem dX7_range_94 : decode cX7_range 94 = .ok (.if_icmp .ne 7, 3) := dk_160 0 7 (dk_at dksX7_range_4 0 rfl rfl)
theorem dX7_range_97 : decode cX7_range 97 = .ok (.iconst 3, 1) := dk_6 (dk_at dksX7_range_4 3 rfl rfl)
theorem dX7_range_98 : decode cX7_range 98 = .ok (.goto 4, 3) := dk_167 0 4 (dk_at dksX7_range_4 4 rfl rfl)
theorem dX7_range_101 : decode cX7_range 101 = .ok (.iconst 0, 1) := dk_3 (dk_at dksX7_range_4 7 rfl rfl)
theorem dX7_range_102 : decode cX7_range 102 = .ok (.putfield 189, 3) := dk_181 0 189 (dk_at dksX7_range_4 8 rfl rfl)
theorem dX7_range_105 : decode cX7_range 105 = .ok (.iconst 3, 1) := dk_6 (dk_at dksX7_range_4 11 rfl rfl)
theorem dX7_range_106 : decode cX7_range 106 = .ok (.iload_n 1, 1) := dk_27 (dk_at dksX7_range_4 12 rfl rfl)
theorem dX7_range_107 : decode cX7_range 107 = .ok (.imul, 1) := dk_104 (dk_at dksX7_range_4 13 rfl rfl)
theorem dX7_range_108 : decode cX7_range 108 = .ok (.istore 6, 2) := dk_54 6 (dk_at dksX7_range_4 14 rfl rfl)
theorem dX7_range_110 : decode cX7_range 110 = .ok (.aload_n 0, 1) := dk_42 (dk_at dksX7_range_4 16 rfl rfl)
theorem dX7_range_111 : decode cX7_range 111 = .ok (.getfield 189, 3) := dk_180 0 189 (dk_at dksX7_range_4 17 rfl rfl)
theorem dX7_range_114 : decode cX7_range 114 = .ok (.ifCond .ne 79, 3) := dk_154 0 79 (dk_at dksX7_range_4 20 rfl rfl)
theorem dX7_range_117 : decode cX7_range 117 = .ok (.iload 6, 2) := dk_21 6 (dk_at dksX7_range_5 0 rfl rfl)
theorem dX7_range_119 : decode cX7_range 119 = .ok (.iconst 3, 1) := dk_6 (dk_at dksX7_range_5 2 rfl rfl)
theorem dX7_range_120 : decode cX7_range 120 = .ok (.iload_n 1, 1) := dk_27 (dk_at dksX7_range_5 3 rfl rfl)
theorem dX7_range_121 : decode cX7_range 121 = .ok (.imul, 1) := dk_104 (dk_at dksX7_range_5 4 rfl rfl)
theorem dX7_range_122 : decode cX7_range 122 = .ok (.aload_n 0, 1) := dk_42 (dk_at dksX7_range_5 5 rfl rfl)
theorem dX7_range_123 : decode cX7_range 123 = .ok (.getfield 117, 3) := dk_180 0 117 (dk_at dksX7_range_5 6 rfl rfl)
theorem dX7_range_126 : decode cX7_range 126 = .ok (.iload_n 1, 1) := dk_27 (dk_at dksX7_range_5 9 rfl rfl)
theorem dX7_range_127 : decode cX7_range 127 = .ok (.iaload, 1) := dk_46 (dk_at dksX7_range_5 10 rfl rfl)
theorem dX7_range_128 : decode cX7_range 128 = .ok (.iadd, 1) := dk_96 (dk_at dksX7_range_5 11 rfl rfl)
theorem dX7_range_129 : decode cX7_range 129 = .ok (.if_icmp .ge 64, 3) := dk_162 0 64 (dk_at dksX7_range_5 12 rfl rfl)
theorem dX7_range_132 : decode cX7_range 132 = .ok (.aload_n 0, 1) := dk_42 (dk_at dksX7_range_5 15 rfl rfl)
theorem dX7_range_133 : decode cX7_range 133 = .ok (.iload_n 2, 1) := dk_28 (dk_at dksX7_range_5 16 rfl rfl)
theorem dX7_range_134 : decode cX7_range 134 = .ok (.iload 4, 2) := dk_21 4 (dk_at dksX7_range_5 17 rfl rfl)
theorem dX7_range_136 : decode cX7_range 136 = .ok (.aload_n 0, 1) := dk_42 (dk_at dksX7_range_5 19 rfl rfl)
theorem dX7_range_137 : decode cX7_range 137 = .ok (.getfield 120, 3) := dk_180 0 120 (dk_at dksX7_range_5 20 rfl rfl)
theorem dX7_range_140 : decode cX7_range 140 = .ok (.iload 6, 2) := dk_21 6 (dk_at dksX7_range_6 0 rfl rfl)
theorem dX7_range_142 : decode cX7_range 142 = .ok (.iaload, 1) := dk_46 (dk_at dksX7_range_6 2 rfl rfl)
theorem dX7_range_143 : decode cX7_range 143 = .ok (.aload_n 0, 1) := dk_42 (dk_at dksX7_range_6 3 rfl rfl)
theorem dX7_range_144 : decode cX7_range 144 = .ok (.getfield 126, 3) := dk_180 0 126 (dk_at dksX7_range_6 4 rfl rfl)
theorem dX7_range_147 : decode cX7_range 147 = .ok (.iload 6, 2) := dk_21 6 (dk_at dksX7_range_6 7 rfl rfl)
theorem dX7_range_149 : decode cX7_range 149 = .ok (.iaload, 1) := dk_46 (dk_at dksX7_range_6 9 rfl rfl)
theorem dX7_range_150 : decode cX7_range 150 = .ok (.invokestatic 328, 3) := dk_184 1 72 (dk_at dksX7_range_6 10 rfl rfl)
theorem dX7_range_153 : decode cX7_range 153 = .ok (.ifCond .ne 26, 3) := dk_154 0 26 (dk_at dksX7_range_6 13 rfl rfl)
theorem dX7_range_156 : decode cX7_range 156 = .ok (.iload_n 3, 1) := dk_29 (dk_at dksX7_range_6 16 rfl rfl)
theorem dX7_range_157 : decode cX7_range 157 = .ok (.iload 4, 2) := dk_21 4 (dk_at dksX7_range_6 17 rfl rfl)
theorem dX7_range_159 : decode cX7_range 159 = .ok (.aload_n 0, 1) := dk_42 (dk_at dksX7_range_6 19 rfl rfl)
theorem dX7_range_160 : decode cX7_range 160 = .ok (.getfield 123, 3) := dk_180 0 123 (dk_at dksX7_range_6 20 rfl rfl)
theorem dX7_range_163 : decode cX7_range 163 = .ok (.iload 6, 2) := dk_21 6 (dk_at dksX7_range_7 0 rfl rfl)
theorem dX7_range_165 : decode cX7_range 165 = .ok (.iaload, 1) := dk_46 (dk_at dksX7_range_7 2 rfl rfl)
theorem dX7_range_166 : decode cX7_range 166 = .ok (.aload_n 0, 1) := dk_42 (dk_at dksX7_range_7 3 rfl rfl)
theorem dX7_range_167 : decode cX7_range 167 = .ok (.getfield 126, 3) := dk_180 0 126 (dk_at dksX7_range_7 4 rfl rfl)
theorem dX7_range_170 : decode cX7_range 170 = .ok (.iload 6, 2) := dk_21 6 (dk_at dksX7_range_7 7 rfl rfl)
theorem dX7_range_172 : decode cX7_range 172 = .ok (.iaload, 1) := dk_46 (dk_at dksX7_range_7 9 rfl rfl)
theorem dX7_range_173 : decode cX7_range 173 = .ok (.invokestatic 328, 3) := dk_184 1 72 (dk_at dksX7_range_7 10 rfl rfl)
theorem dX7_range_176 : decode cX7_range 176 = .ok (.ifCond .eq 7, 3) := dk_153 0 7 (dk_at dksX7_range_7 13 rfl rfl)
theorem dX7_range_179 : decode cX7_range 179 = .ok (.iconst 3, 1) := dk_6 (dk_at dksX7_range_7 16 rfl rfl)
theorem dX7_range_180 : decode cX7_range 180 = .ok (.goto 4, 3) := dk_167 0 4 (dk_at dksX7_range_7 17 rfl rfl)
theorem dX7_range_183 : decode cX7_range 183 = .ok (.iconst 0, 1) := dk_3 (dk_at dksX7_range_7 20 rfl rfl)
theorem dX7_range_184 : decode cX7_range 184 = .ok (.putfield 189, 3) := dk_181 0 189 (dk_at dksX7_range_7 21 rfl rfl)
theorem dX7_range_187 : decode cX7_range 187 = .ok (.iinc 6 1, 3) := dk_132 6 1 (dk_at dksX7_range_8 0 rfl rfl)
theorem dX7_range_190 : decode cX7_range 190 = .ok (.goto (-80), 3) := dk_167 255 176 (dk_at dksX7_range_8 3 rfl rfl)
theorem dX7_range_193 : decode cX7_range 193 = .ok (.aload_n 0, 1) := dk_42 (dk_at dksX7_range_8 6 rfl rfl)
theorem dX7_range_194 : decode cX7_range 194 = .ok (.getfield 189, 3) := dk_180 0 189 (dk_at dksX7_range_8 7 rfl rfl)
theorem dX7_range_197 : decode cX7_range 197 = .ok (.ifCond .le 5, 3) := dk_158 0 5 (dk_at dksX7_range_8 10 rfl rfl)
theorem dX7_range_200 : decode cX7_range 200 = .ok (.iconst 0, 1) := dk_3 (dk_at dksX7_range_8 13 rfl rfl)
theorem dX7_range_201 : decode cX7_range 201 = .ok (.ireturn, 1) := dk_172 (dk_at dksX7_range_8 14 rfl rfl)
theorem dX7_range_202 : decode cX7_range 202 = .ok (.iconst 3, 1) := dk_6 (dk_at dksX7_range_8 15 rfl rfl)
theorem dX7_range_203 : decode cX7_range 203 = .ok (.iload_n 1, 1) := dk_27 (dk_at dksX7_range_8 16 rfl rfl)
theorem dX7_range_204 : decode cX7_range 204 = .ok (.imul, 1) := dk_104 (dk_at dksX7_range_8 17 rfl rfl)
theorem dX7_range_205 : decode cX7_range 205 = .ok (.aload_n 0, 1) := dk_42 (dk_at dksX7_range_8 18 rfl rfl)
theorem dX7_range_206 : decode cX7_range 206 = .ok (.getfield 117, 3) := dk_180 0 117 (dk_at dksX7_range_8 19 rfl rfl)
theorem dX7_range_209 : decode cX7_range 209 = .ok (.iload_n 1, 1) := dk_27 (dk_at dksX7_range_8 22 rfl rfl)
theorem dX7_range_210 : decode cX7_range 210 = .ok (.iaload, 1) := dk_46 (dk_at dksX7_range_8 23 rfl rfl)
theorem dX7_range_211 : decode cX7_range 211 = .ok (.iadd, 1) := dk_96 (dk_at dksX7_range_9 0 rfl rfl)
theorem dX7_range_212 : decode cX7_range 212 = .ok (.istore 6, 2) := dk_54 6 (dk_at dksX7_range_9 1 rfl rfl)
theorem dX7_range_214 : decode cX7_range 214 = .ok (.aload_n 0, 1) := dk_42 (dk_at dksX7_range_9 3 rfl rfl)
theorem dX7_range_215 : decode cX7_range 215 = .ok (.getfield 120, 3) := dk_180 0 120 (dk_at dksX7_range_9 4 rfl rfl)
theorem dX7_range_218 : decode cX7_range 218 = .ok (.iload 6, 2) := dk_21 6 (dk_at dksX7_range_9 7 rfl rfl)
theorem dX7_range_220 : decode cX7_range 220 = .ok (.iload_n 2, 1) := dk_28 (dk_at dksX7_range_9 9 rfl rfl)
theorem dX7_range_221 : decode cX7_range 221 = .ok (.iastore, 1) := dk_79 (dk_at dksX7_range_9 10 rfl rfl)
theorem dX7_range_222 : decode cX7_range 222 = .ok (.aload_n 0, 1) := dk_42 (dk_at dksX7_range_9 11 rfl rfl)
theorem dX7_range_223 : decode cX7_range 223 = .ok (.getfield 123, 3) := dk_180 0 123 (dk_at dksX7_range_9 12 rfl rfl)
theorem dX7_range_226 : decode cX7_range 226 = .ok (.iload 6, 2) := dk_21 6 (dk_at dksX7_range_9 15 rfl rfl)
theorem dX7_range_228 : decode cX7_range 228 = .ok (.iload_n 3, 1) := dk_29 (dk_at dksX7_range_9 17 rfl rfl)
theorem dX7_range_229 : decode cX7_range 229 = .ok (.iastore, 1) := dk_79 (dk_at dksX7_range_9 18 rfl rfl)
theorem dX7_range_230 : decode cX7_range 230 = .ok (.aload_n 0, 1) := dk_42 (dk_at dksX7_range_9 19 rfl rfl)
theorem dX7_range_231 : decode cX7_range 231 = .ok (.getfield 126, 3) := dk_180 0 126 (dk_at dksX7_range_9 20 rfl rfl)
theorem dX7_range_234 : decode cX7_range 234 = .ok (.iload 6, 2) := dk_21 6 (dk_at dksX7_range_10 0 rfl rfl)
theorem dX7_range_236 : decode cX7_range 236 = .ok (.iload 4, 2) := dk_21 4 (dk_at dksX7_range_10 2 rfl rfl)
theorem dX7_range_238 : decode cX7_range 238 = .ok (.iastore, 1) := dk_79 (dk_at dksX7_range_10 4 rfl rfl)
theorem dX7_range_239 : decode cX7_range 239 = .ok (.aload_n 0, 1) := dk_42 (dk_at dksX7_range_10 5 rfl rfl)
theorem dX7_range_240 : decode cX7_range 240 = .ok (.getfield 117, 3) := dk_180 0 117 (dk_at dksX7_range_10 6 rfl rfl)
theorem dX7_range_243 : decode cX7_range 243 = .ok (.iload_n 1, 1) := dk_27 (dk_at dksX7_range_10 9 rfl rfl)
theorem dX7_range_244 : decode cX7_range 244 = .ok (.dup2, 1) := dk_92 (dk_at dksX7_range_10 10 rfl rfl)
theorem dX7_range_245 : decode cX7_range 245 = .ok (.iaload, 1) := dk_46 (dk_at dksX7_range_10 11 rfl rfl)
theorem dX7_range_246 : decode cX7_range 246 = .ok (.iconst 1, 1) := dk_4 (dk_at dksX7_range_10 12 rfl rfl)
theorem dX7_range_247 : decode cX7_range 247 = .ok (.iadd, 1) := dk_96 (dk_at dksX7_range_10 13 rfl rfl)
theorem dX7_range_248 : decode cX7_range 248 = .ok (.iastore, 1) := dk_79 (dk_at dksX7_range_10 14 rfl rfl)
theorem dX7_range_249 : decode cX7_range 249 = .ok (.aload_n 0, 1) := dk_42 (dk_at dksX7_range_10 15 rfl rfl)
theorem dX7_range_250 : decode cX7_range 250 = .ok (.getfield 117, 3) := dk_180 0 117 (dk_at dksX7_range_10 16 rfl rfl)
theorem dX7_range_253 : decode cX7_range 253 = .ok (.iload_n 1, 1) := dk_27 (dk_at dksX7_range_10 19 rfl rfl)
theorem dX7_range_254 : decode cX7_range 254 = .ok (.iaload, 1) := dk_46 (dk_at dksX7_range_10 20 rfl rfl)
theorem dX7_range_255 : decode cX7_range 255 = .ok (.ireturn, 1) := dk_172 (dk_at dksX7_range_10 21 rfl rfl)
abbrev cX7_meet : ByteArray := prog_17_method_55_code
def yX7_meet : MethodName := ⟨RX7, "meet", "(IIII)Z"⟩
def dkwX7_meet_0 : List UInt8 := [26, 28, 29, 96, 162, 0, 14, 28, 26, 27, 96, 162, 0, 7, 4, 167, 0, 4, 3, 172]
abbrev dktX7_meet_0 : List UInt8 := dkwX7_meet_0 ++ []
theorem dksX7_meet_0 : cX7_meet.data.toList.drop 0 = dktX7_meet_0 := by decide +kernel
theorem dX7_meet_0 : decode cX7_meet 0 = .ok (.iload_n 0, 1) := dk_26 (dk_at dksX7_meet_0 0 rfl rfl)
theorem dX7_meet_1 : decode cX7_meet 1 = .ok (.iload_n 2, 1) := dk_28 (dk_at dksX7_meet_0 1 rfl rfl)
theorem dX7_meet_2 : decode cX7_meet 2 = .ok (.iload_n 3, 1) := dk_29 (dk_at dksX7_meet_0 2 rfl rfl)
theorem dX7_meet_3 : decode cX7_meet 3 = .ok (.iadd, 1) := dk_96 (dk_at dksX7_meet_0 3 rfl rfl)
theorem dX7_meet_4 : decode cX7_meet 4 = .ok (.if_icmp .ge 14, 3) := dk_162 0 14 (dk_at dksX7_meet_0 4 rfl rfl)
theorem dX7_meet_7 : decode cX7_meet 7 = .ok (.iload_n 2, 1) := dk_28 (dk_at dksX7_meet_0 7 rfl rfl)
theorem dX7_meet_8 : decode cX7_meet 8 = .ok (.iload_n 0, 1) := dk_26 (dk_at dksX7_meet_0 8 rfl rfl)
theorem dX7_meet_9 : decode cX7_meet 9 = .ok (.iload_n 1, 1) := dk_27 (dk_at dksX7_meet_0 9 rfl rfl)
theorem dX7_meet_10 : decode cX7_meet 10 = .ok (.iadd, 1) := dk_96 (dk_at dksX7_meet_0 10 rfl rfl)
theorem dX7_meet_11 : decode cX7_meet 11 = .ok (.if_icmp .ge 7, 3) := dk_162 0 7 (dk_at dksX7_meet_0 11 rfl rfl)
theorem dX7_meet_14 : decode cX7_meet 14 = .ok (.iconst 1, 1) := dk_4 (dk_at dksX7_meet_0 14 rfl rfl)
theorem dX7_meet_15 : decode cX7_meet 15 = .ok (.goto 4, 3) := dk_167 0 4 (dk_at dksX7_meet_0 15 rfl rfl)
theorem dX7_meet_18 : decode cX7_meet 18 = .ok (.iconst 0, 1) := dk_3 (dk_at dksX7_meet_0 18 rfl rfl)
theorem dX7_meet_19 : decode cX7_meet 19 = .ok (.ireturn, 1) := dk_172 (dk_at dksX7_meet_0 19 rfl rfl)
abbrev cX7_hostId : ByteArray := prog_17_method_57_code
def yX7_hostId : MethodName := ⟨RX7, "hostId", "(II)I"⟩
def dkwX7_hostId_7 : List UInt8 := [167, 0, 4, 29, 172]
abbrev dktX7_hostId_7 : List UInt8 := dkwX7_hostId_7 ++ []
def dkwX7_hostId_6 : List UInt8 := [21, 5, 62, 42, 180, 0, 114, 21, 4, 46, 54, 4, 167, 255, 140, 42, 180, 0, 189, 158, 0, 7, 3]
abbrev dktX7_hostId_6 : List UInt8 := dkwX7_hostId_6 ++ dktX7_hostId_7
def dkwX7_hostId_5 : List UInt8 := [29, 96, 42, 180, 0, 120, 21, 6, 46, 100, 167, 0, 5, 21, 5, 54, 5, 132, 6, 1, 167, 255, 181]
abbrev dktX7_hostId_5 : List UInt8 := dkwX7_hostId_5 ++ dktX7_hostId_6
def dkwX7_hostId_4 : List UInt8 := [46, 42, 180, 0, 126, 21, 6, 46, 96, 4, 100, 184, 0, 192, 153, 0, 23, 42, 180, 0, 123, 21, 6, 46]
abbrev dktX7_hostId_4 : List UInt8 := dkwX7_hostId_4 ++ dktX7_hostId_5
def dkwX7_hostId_3 : List UInt8 := [180, 0, 117, 21, 4, 46, 96, 162, 0, 64, 29, 42, 180, 0, 120, 21, 6, 46, 42, 180, 0, 120, 21, 6]
abbrev dktX7_hostId_3 : List UInt8 := dkwX7_hostId_3 ++ dktX7_hostId_4
def dkwX7_hostId_2 : List UInt8 := [153, 0, 110, 29, 2, 159, 0, 105, 2, 54, 5, 6, 21, 4, 104, 54, 6, 21, 6, 6, 21, 4, 104, 42]
abbrev dktX7_hostId_2 : List UInt8 := dkwX7_hostId_2 ++ dktX7_hostId_3
def dkwX7_hostId_1 : List UInt8 := [5, 167, 0, 4, 3, 181, 0, 189, 28, 62, 27, 54, 4, 42, 180, 0, 189, 154, 0, 115, 21, 4]
abbrev dktX7_hostId_1 : List UInt8 := dkwX7_hostId_1 ++ dktX7_hostId_2
def dkwX7_hostId_0 : List UInt8 := [42, 42, 27, 182, 1, 69, 154, 0, 7, 4, 167, 0, 19, 28, 3, 17, 3, 231, 184, 0, 192, 154, 0, 7]
abbrev dktX7_hostId_0 : List UInt8 := dkwX7_hostId_0 ++ dktX7_hostId_1
theorem dksX7_hostId_0 : cX7_hostId.data.toList.drop 0 = dktX7_hostId_0 := by decide +kernel
theorem dksX7_hostId_1 : cX7_hostId.data.toList.drop 24 = dktX7_hostId_1 := dk_seg dksX7_hostId_0 24 rfl rfl
theorem dksX7_hostId_2 : cX7_hostId.data.toList.drop 46 = dktX7_hostId_2 := dk_seg dksX7_hostId_1 22 rfl rfl
theorem dksX7_hostId_3 : cX7_hostId.data.toList.drop 70 = dktX7_hostId_3 := dk_seg dksX7_hostId_2 24 rfl rfl
theorem dksX7_hostId_4 : cX7_hostId.data.toList.drop 94 = dktX7_hostId_4 := dk_seg dksX7_hostId_3 24 rfl rfl
theorem dksX7_hostId_5 : cX7_hostId.data.toList.drop 118 = dktX7_hostId_5 := dk_seg dksX7_hostId_4 24 rfl rfl
theorem dksX7_hostId_6 : cX7_hostId.data.toList.drop 141 = dktX7_hostId_6 := dk_seg dksX7_hostId_5 23 rfl rfl
theorem dksX7_hostId_7 : cX7_hostId.data.toList.drop 164 = dktX7_hostId_7 := dk_seg dksX7_hostId_6 23 rfl rfl
theorem dX7_hostId_0 : decode cX7_hostId 0 = .ok (.aload_n 0, 1) := dk_42 (dk_at dksX7_hostId_0 0 rfl rfl)
theorem dX7_hostId_1 : decode cX7_hostId 1 = .ok (.aload_n 0, 1) := dk_42 (dk_at dksX7_hostId_0 1 rfl rfl)
theorem dX7_hostId_2 : decode cX7_hostId 2 = .ok (.iload_n 1, 1) := dk_27 (dk_at dksX7_hostId_0 2 rfl rfl)
theorem dX7_hostId_3 : decode cX7_hostId 3 = .ok (.invokevirtual 325, 3) := dk_182 1 69 (dk_at dksX7_hostId_0 3 rfl rfl)
theorem dX7_hostId_6 : decode cX7_hostId 6 = .ok (.ifCond .ne 7, 3) := dk_154 0 7 (dk_at dksX7_hostId_0 6 rfl rfl)
theorem dX7_hostId_9 : decode cX7_hostId 9 = .ok (.iconst 1, 1) := dk_4 (dk_at dksX7_hostId_0 9 rfl rfl)
theorem dX7_hostId_10 : decode cX7_hostId 10 = .ok (.goto 19, 3) := dk_167 0 19 (dk_at dksX7_hostId_0 10 rfl rfl)
theorem dX7_hostId_13 : decode cX7_hostId 13 = .ok (.iload_n 2, 1) := dk_28 (dk_at dksX7_hostId_0 13 rfl rfl)
theorem dX7_hostId_14 : decode cX7_hostId 14 = .ok (.iconst 0, 1) := dk_3 (dk_at dksX7_hostId_0 14 rfl rfl)
theorem dX7_hostId_15 : decode cX7_hostId 15 = .ok (.sipush 999, 3) := dk_17 3 231 (dk_at dksX7_hostId_0 15 rfl rfl)
theorem dX7_hostId_18 : decode cX7_hostId 18 = .ok (.invokestatic 192, 3) := dk_184 0 192 (dk_at dksX7_hostId_0 18 rfl rfl)
theorem dX7_hostId_21 : decode cX7_hostId 21 = .ok (.ifCond .ne 7, 3) := dk_154 0 7 (dk_at dksX7_hostId_0 21 rfl rfl)
theorem dX7_hostId_24 : decode cX7_hostId 24 = .ok (.iconst 2, 1) := dk_5 (dk_at dksX7_hostId_1 0 rfl rfl)
theorem dX7_hostId_25 : decode cX7_hostId 25 = .ok (.goto 4, 3) := dk_167 0 4 (dk_at dksX7_hostId_1 1 rfl rfl)
theorem dX7_hostId_28 : decode cX7_hostId 28 = .ok (.iconst 0, 1) := dk_3 (dk_at dksX7_hostId_1 4 rfl rfl)
theorem dX7_hostId_29 : decode cX7_hostId 29 = .ok (.putfield 189, 3) := dk_181 0 189 (dk_at dksX7_hostId_1 5 rfl rfl)
theorem dX7_hostId_32 : decode cX7_hostId 32 = .ok (.iload_n 2, 1) := dk_28 (dk_at dksX7_hostId_1 8 rfl rfl)
theorem dX7_hostId_33 : decode cX7_hostId 33 = .ok (.istore_n 3, 1) := dk_62 (dk_at dksX7_hostId_1 9 rfl rfl)
theorem dX7_hostId_34 : decode cX7_hostId 34 = .ok (.iload_n 1, 1) := dk_27 (dk_at dksX7_hostId_1 10 rfl rfl)
theorem dX7_hostId_35 : decode cX7_hostId 35 = .ok (.istore 4, 2) := dk_54 4 (dk_at dksX7_hostId_1 11 rfl rfl)
theorem dX7_hostId_37 : decode cX7_hostId 37 = .ok (.aload_n 0, 1) := dk_42 (dk_at dksX7_hostId_1 13 rfl rfl)
theorem dX7_hostId_38 : decode cX7_hostId 38 = .ok (.getfield 189, 3) := dk_180 0 189 (dk_at dksX7_hostId_1 14 rfl rfl)
theorem dX7_hostId_41 : decode cX7_hostId 41 = .ok (.ifCond .ne 115, 3) := dk_154 0 115 (dk_at dksX7_hostId_1 17 rfl rfl)
theorem dX7_hostId_44 : decode cX7_hostId 44 = .ok (.iload 4, 2) := dk_21 4 (dk_at dksX7_hostId_1 20 rfl rfl)
theorem dX7_hostId_46 : decode cX7_hostId 46 = .ok (.ifCond .eq 110, 3) := dk_153 0 110 (dk_at dksX7_hostId_2 0 rfl rfl)
theorem dX7_hostId_49 : decode cX7_hostId 49 = .ok (.iload_n 3, 1) := dk_29 (dk_at dksX7_hostId_2 3 rfl rfl)
theorem dX7_hostId_50 : decode cX7_hostId 50 = .ok (.iconst (-1), 1) := dk_2 (dk_at dksX7_hostId_2 4 rfl rfl)
theorem dX7_hostId_51 : decode cX7_hostId 51 = .ok (.if_icmp .eq 105, 3) := dk_159 0 105 (dk_at dksX7_hostId_2 5 rfl rfl)
theorem dX7_hostId_54 : decode cX7_hostId 54 = .ok (.iconst (-1), 1) := dk_2 (dk_at dksX7_hostId_2 8 rfl rfl)
theorem dX7_hostId_55 : decode cX7_hostId 55 = .ok (.istore 5, 2) := dk_54 5 (dk_at dksX7_hostId_2 9 rfl rfl)
theorem dX7_hostId_57 : decode cX7_hostId 57 = .ok (.iconst 3, 1) := dk_6 (dk_at dksX7_hostId_2 11 rfl rfl)
theorem dX7_hostId_58 : decode cX7_hostId 58 = .ok (.iload 4, 2) := dk_21 4 (dk_at dksX7_hostId_2 12 rfl rfl)
theorem dX7_hostId_60 : decode cX7_hostId 60 = .ok (.imul, 1) := dk_104 (dk_at dksX7_hostId_2 14 rfl rfl)
theorem dX7_hostId_61 : decode cX7_hostId 61 = .ok (.istore 6, 2) := dk_54 6 (dk_at dksX7_hostId_2 15 rfl rfl)
theorem dX7_hostId_63 : decode cX7_hostId 63 = .ok (.iload 6, 2) := dk_21 6 (dk_at dksX7_hostId_2 17 rfl rfl)
theorem dX7_hostId_65 : decode cX7_hostId 65 = .ok (.iconst 3, 1) := dk_6 (dk_at dksX7_hostId_2 19 rfl rfl)
theorem dX7_hostId_66 : decode cX7_hostId 66 = .ok (.iload 4, 2) := dk_21 4 (dk_at dksX7_hostId_2 20 rfl rfl)
theorem dX7_hostId_68 : decode cX7_hostId 68 = .ok (.imul, 1) := dk_104 (dk_at dksX7_hostId_2 22 rfl rfl)
theorem dX7_hostId_69 : decode cX7_hostId 69 = .ok (.aload_n 0, 1) := dk_42 (dk_at dksX7_hostId_2 23 rfl rfl)
theorem dX7_hostId_70 : decode cX7_hostId 70 = .ok (.getfield 117, 3) := dk_180 0 117 (dk_at dksX7_hostId_3 0 rfl rfl)
theorem dX7_hostId_73 : decode cX7_hostId 73 = .ok (.iload 4, 2) := dk_21 4 (dk_at dksX7_hostId_3 3 rfl rfl)
theorem dX7_hostId_75 : decode cX7_hostId 75 = .ok (.iaload, 1) := dk_46 (dk_at dksX7_hostId_3 5 rfl rfl)
theorem dX7_hostId_76 : decode cX7_hostId 76 = .ok (.iadd, 1) := dk_96 (dk_at dksX7_hostId_3 6 rfl rfl)
theorem dX7_hostId_77 : decode cX7_hostId 77 = .ok (.if_icmp .ge 64, 3) := dk_162 0 64 (dk_at dksX7_hostId_3 7 rfl rfl)
theorem dX7_hostId_80 : decode cX7_hostId 80 = .ok (.iload_n 3, 1) := dk_29 (dk_at dksX7_hostId_3 10 rfl rfl)
theorem dX7_hostId_81 : decode cX7_hostId 81 = .ok (.aload_n 0, 1) := dk_42 (dk_at dksX7_hostId_3 11 rfl rfl)
theorem dX7_hostId_82 : decode cX7_hostId 82 = .ok (.getfield 120, 3) := dk_180 0 120 (dk_at dksX7_hostId_3 12 rfl rfl)
theorem dX7_hostId_85 : decode cX7_hostId 85 = .ok (.iload 6, 2) := dk_21 6 (dk_at dksX7_hostId_3 15 rfl rfl)
theorem dX7_hostId_87 : decode cX7_hostId 87 = .ok (.iaload, 1) := dk_46 (dk_at dksX7_hostId_3 17 rfl rfl)
theorem dX7_hostId_88 : decode cX7_hostId 88 = .ok (.aload_n 0, 1) := dk_42 (dk_at dksX7_hostId_3 18 rfl rfl)
theorem dX7_hostId_89 : decode cX7_hostId 89 = .ok (.getfield 120, 3) := dk_180 0 120 (dk_at dksX7_hostId_3 19 rfl rfl)
theorem dX7_hostId_92 : decode cX7_hostId 92 = .ok (.iload 6, 2) := dk_21 6 (dk_at dksX7_hostId_3 22 rfl rfl)
theorem dX7_hostId_94 : decode cX7_hostId 94 = .ok (.iaload, 1) := dk_46 (dk_at dksX7_hostId_4 0 rfl rfl)
theorem dX7_hostId_95 : decode cX7_hostId 95 = .ok (.aload_n 0, 1) := dk_42 (dk_at dksX7_hostId_4 1 rfl rfl)
theorem dX7_hostId_96 : decode cX7_hostId 96 = .ok (.getfield 126, 3) := dk_180 0 126 (dk_at dksX7_hostId_4 2 rfl rfl)
theorem dX7_hostId_99 : decode cX7_hostId 99 = .ok (.iload 6, 2) := dk_21 6 (dk_at dksX7_hostId_4 5 rfl rfl)
theorem dX7_hostId_101 : decode cX7_hostId 101 = .ok (.iaload, 1) := dk_46 (dk_at dksX7_hostId_4 7 rfl rfl)
theorem dX7_hostId_102 : decode cX7_hostId 102 = .ok (.iadd, 1) := dk_96 (dk_at dksX7_hostId_4 8 rfl rfl)
theorem dX7_hostId_103 : decode cX7_hostId 103 = .ok (.iconst 1, 1) := dk_4 (dk_at dksX7_hostId_4 9 rfl rfl)
theorem dX7_hostId_104 : decode cX7_hostId 104 = .ok (.isub, 1) := dk_100 (dk_at dksX7_hostId_4 10 rfl rfl)
theorem dX7_hostId_105 : decode cX7_hostId 105 = .ok (.invokestatic 192, 3) := dk_184 0 192 (dk_at dksX7_hostId_4 11 rfl rfl)
theorem dX7_hostId_108 : decode cX7_hostId 108 = .ok (.ifCond .eq 23, 3) := dk_153 0 23 (dk_at dksX7_hostId_4 14 rfl rfl)
theorem dX7_hostId_111 : decode cX7_hostId 111 = .ok (.aload_n 0, 1) := dk_42 (dk_at dksX7_hostId_4 17 rfl rfl)
theorem dX7_hostId_112 : decode cX7_hostId 112 = .ok (.getfield 123, 3) := dk_180 0 123 (dk_at dksX7_hostId_4 18 rfl rfl)
theorem dX7_hostId_115 : decode cX7_hostId 115 = .ok (.iload 6, 2) := dk_21 6 (dk_at dksX7_hostId_4 21 rfl rfl)
theorem dX7_hostId_117 : decode cX7_hostId 117 = .ok (.iaload, 1) := dk_46 (dk_at dksX7_hostId_4 23 rfl rfl)
theorem dX7_hostId_118 : decode cX7_hostId 118 = .ok (.iload_n 3, 1) := dk_29 (dk_at dksX7_hostId_5 0 rfl rfl)
theorem dX7_hostId_119 : decode cX7_hostId 119 = .ok (.iadd, 1) := dk_96 (dk_at dksX7_hostId_5 1 rfl rfl)
theorem dX7_hostId_120 : decode cX7_hostId 120 = .ok (.aload_n 0, 1) := dk_42 (dk_at dksX7_hostId_5 2 rfl rfl)
theorem dX7_hostId_121 : decode cX7_hostId 121 = .ok (.getfield 120, 3) := dk_180 0 120 (dk_at dksX7_hostId_5 3 rfl rfl)
theorem dX7_hostId_124 : decode cX7_hostId 124 = .ok (.iload 6, 2) := dk_21 6 (dk_at dksX7_hostId_5 6 rfl rfl)
theorem dX7_hostId_126 : decode cX7_hostId 126 = .ok (.iaload, 1) := dk_46 (dk_at dksX7_hostId_5 8 rfl rfl)
theorem dX7_hostId_127 : decode cX7_hostId 127 = .ok (.isub, 1) := dk_100 (dk_at dksX7_hostId_5 9 rfl rfl)
theorem dX7_hostId_128 : decode cX7_hostId 128 = .ok (.goto 5, 3) := dk_167 0 5 (dk_at dksX7_hostId_5 10 rfl rfl)
theorem dX7_hostId_131 : decode cX7_hostId 131 = .ok (.iload 5, 2) := dk_21 5 (dk_at dksX7_hostId_5 13 rfl rfl)
theorem dX7_hostId_133 : decode cX7_hostId 133 = .ok (.istore 5, 2) := dk_54 5 (dk_at dksX7_hostId_5 15 rfl rfl)
theorem dX7_hostId_135 : decode cX7_hostId 135 = .ok (.iinc 6 1, 3) := dk_132 6 1 (dk_at dksX7_hostId_5 17 rfl rfl)
theorem dX7_hostId_138 : decode cX7_hostId 138 = .ok (.goto (-75), 3) := dk_167 255 181 (dk_at dksX7_hostId_5 20 rfl rfl)
theorem dX7_hostId_141 : decode cX7_hostId 141 = .ok (.iload 5, 2) := dk_21 5 (dk_at dksX7_hostId_6 0 rfl rfl)
theorem dX7_hostId_143 : decode cX7_hostId 143 = .ok (.istore_n 3, 1) := dk_62 (dk_at dksX7_hostId_6 2 rfl rfl)
theorem dX7_hostId_144 : decode cX7_hostId 144 = .ok (.aload_n 0, 1) := dk_42 (dk_at dksX7_hostId_6 3 rfl rfl)
theorem dX7_hostId_145 : decode cX7_hostId 145 = .ok (.getfield 114, 3) := dk_180 0 114 (dk_at dksX7_hostId_6 4 rfl rfl)
theorem dX7_hostId_148 : decode cX7_hostId 148 = .ok (.iload 4, 2) := dk_21 4 (dk_at dksX7_hostId_6 7 rfl rfl)
theorem dX7_hostId_150 : decode cX7_hostId 150 = .ok (.iaload, 1) := dk_46 (dk_at dksX7_hostId_6 9 rfl rfl)
theorem dX7_hostId_151 : decode cX7_hostId 151 = .ok (.istore 4, 2) := dk_54 4 (dk_at dksX7_hostId_6 10 rfl rfl)
theorem dX7_hostId_153 : decode cX7_hostId 153 = .ok (.goto (-116), 3) := dk_167 255 140 (dk_at dksX7_hostId_6 12 rfl rfl)
theorem dX7_hostId_156 : decode cX7_hostId 156 = .ok (.aload_n 0, 1) := dk_42 (dk_at dksX7_hostId_6 15 rfl rfl)
theorem dX7_hostId_157 : decode cX7_hostId 157 = .ok (.getfield 189, 3) := dk_180 0 189 (dk_at dksX7_hostId_6 16 rfl rfl)
theorem dX7_hostId_160 : decode cX7_hostId 160 = .ok (.ifCond .le 7, 3) := dk_158 0 7 (dk_at dksX7_hostId_6 19 rfl rfl)
theorem dX7_hostId_163 : decode cX7_hostId 163 = .ok (.iconst 0, 1) := dk_3 (dk_at dksX7_hostId_6 22 rfl rfl)
theorem dX7_hostId_164 : decode cX7_hostId 164 = .ok (.goto 4, 3) := dk_167 0 4 (dk_at dksX7_hostId_7 0 rfl rfl)
theorem dX7_hostId_167 : decode cX7_hostId 167 = .ok (.iload_n 3, 1) := dk_29 (dk_at dksX7_hostId_7 3 rfl rfl)
theorem dX7_hostId_168 : decode cX7_hostId 168 = .ok (.ireturn, 1) := dk_172 (dk_at dksX7_hostId_7 4 rfl rfl)
abbrev cX7_canAct : ByteArray := prog_17_method_58_code
def yX7_canAct : MethodName := ⟨RX7, "canAct", "(II)Z"⟩
def dkwX7_canAct_3 : List UInt8 := [160, 0, 7, 4, 167, 0, 4, 3, 172]
abbrev dktX7_canAct_3 : List UInt8 := dkwX7_canAct_3 ++ []
def dkwX7_canAct_2 : List UInt8 := [159, 0, 13, 42, 180, 0, 114, 29, 46, 62, 167, 255, 239, 42, 180, 0, 189, 154, 0, 12, 29, 27]
abbrev dktX7_canAct_2 : List UInt8 := dkwX7_canAct_2 ++ dktX7_canAct_3
def dkwX7_canAct_1 : List UInt8 := [181, 0, 189, 42, 180, 0, 189, 158, 0, 7, 2, 167, 0, 4, 28, 62, 29, 2, 159, 0, 18, 29, 27]
abbrev dktX7_canAct_1 : List UInt8 := dkwX7_canAct_1 ++ dktX7_canAct_2
def dkwX7_canAct_0 : List UInt8 := [42, 42, 27, 182, 1, 69, 153, 0, 15, 42, 28, 182, 1, 69, 153, 0, 7, 3, 167, 0, 4, 4]
abbrev dktX7_canAct_0 : List UInt8 := dkwX7_canAct_0 ++ dktX7_canAct_1
theorem dksX7_canAct_0 : cX7_canAct.data.toList.drop 0 = dktX7_canAct_0 := by decide +kernel
theorem dksX7_canAct_1 : cX7_canAct.data.toList.drop 22 = dktX7_canAct_1 := dk_seg dksX7_canAct_0 22 rfl rfl
theorem dksX7_canAct_2 : cX7_canAct.data.toList.drop 45 = dktX7_canAct_2 := dk_seg dksX7_canAct_1 23 rfl rfl
theorem dksX7_canAct_3 : cX7_canAct.data.toList.drop 67 = dktX7_canAct_3 := dk_seg dksX7_canAct_2 22 rfl rfl
theorem dX7_canAct_0 : decode cX7_canAct 0 = .ok (.aload_n 0, 1) := dk_42 (dk_at dksX7_canAct_0 0 rfl rfl)
theorem dX7_canAct_1 : decode cX7_canAct 1 = .ok (.aload_n 0, 1) := dk_42 (dk_at dksX7_canAct_0 1 rfl rfl)
theorem dX7_canAct_2 : decode cX7_canAct 2 = .ok (.iload_n 1, 1) := dk_27 (dk_at dksX7_canAct_0 2 rfl rfl)
theorem dX7_canAct_3 : decode cX7_canAct 3 = .ok (.invokevirtual 325, 3) := dk_182 1 69 (dk_at dksX7_canAct_0 3 rfl rfl)
theorem dX7_canAct_6 : decode cX7_canAct 6 = .ok (.ifCond .eq 15, 3) := dk_153 0 15 (dk_at dksX7_canAct_0 6 rfl rfl)
theorem dX7_canAct_9 : decode cX7_canAct 9 = .ok (.aload_n 0, 1) := dk_42 (dk_at dksX7_canAct_0 9 rfl rfl)
theorem dX7_canAct_10 : decode cX7_canAct 10 = .ok (.iload_n 2, 1) := dk_28 (dk_at dksX7_canAct_0 10 rfl rfl)
theorem dX7_canAct_11 : decode cX7_canAct 11 = .ok (.invokevirtual 325, 3) := dk_182 1 69 (dk_at dksX7_canAct_0 11 rfl rfl)
theorem dX7_canAct_14 : decode cX7_canAct 14 = .ok (.ifCond .eq 7, 3) := dk_153 0 7 (dk_at dksX7_canAct_0 14 rfl rfl)
theorem dX7_canAct_17 : decode cX7_canAct 17 = .ok (.iconst 0, 1) := dk_3 (dk_at dksX7_canAct_0 17 rfl rfl)
theorem dX7_canAct_18 : decode cX7_canAct 18 = .ok (.goto 4, 3) := dk_167 0 4 (dk_at dksX7_canAct_0 18 rfl rfl)
theorem dX7_canAct_21 : decode cX7_canAct 21 = .ok (.iconst 1, 1) := dk_4 (dk_at dksX7_canAct_0 21 rfl rfl)
theorem dX7_canAct_22 : decode cX7_canAct 22 = .ok (.putfield 189, 3) := dk_181 0 189 (dk_at dksX7_canAct_1 0 rfl rfl)
theorem dX7_canAct_25 : decode cX7_canAct 25 = .ok (.aload_n 0, 1) := dk_42 (dk_at dksX7_canAct_1 3 rfl rfl)
theorem dX7_canAct_26 : decode cX7_canAct 26 = .ok (.getfield 189, 3) := dk_180 0 189 (dk_at dksX7_canAct_1 4 rfl rfl)
theorem dX7_canAct_29 : decode cX7_canAct 29 = .ok (.ifCond .le 7, 3) := dk_158 0 7 (dk_at dksX7_canAct_1 7 rfl rfl)
theorem dX7_canAct_32 : decode cX7_canAct 32 = .ok (.iconst (-1), 1) := dk_2 (dk_at dksX7_canAct_1 10 rfl rfl)
theorem dX7_canAct_33 : decode cX7_canAct 33 = .ok (.goto 4, 3) := dk_167 0 4 (dk_at dksX7_canAct_1 11 rfl rfl)
theorem dX7_canAct_36 : decode cX7_canAct 36 = .ok (.iload_n 2, 1) := dk_28 (dk_at dksX7_canAct_1 14 rfl rfl)
theorem dX7_canAct_37 : decode cX7_canAct 37 = .ok (.istore_n 3, 1) := dk_62 (dk_at dksX7_canAct_1 15 rfl rfl)
theorem dX7_canAct_38 : decode cX7_canAct 38 = .ok (.iload_n 3, 1) := dk_29 (dk_at dksX7_canAct_1 16 rfl rfl)
theorem dX7_canAct_39 : decode cX7_canAct 39 = .ok (.iconst (-1), 1) := dk_2 (dk_at dksX7_canAct_1 17 rfl rfl)
theorem dX7_canAct_40 : decode cX7_canAct 40 = .ok (.if_icmp .eq 18, 3) := dk_159 0 18 (dk_at dksX7_canAct_1 18 rfl rfl)
theorem dX7_canAct_43 : decode cX7_canAct 43 = .ok (.iload_n 3, 1) := dk_29 (dk_at dksX7_canAct_1 21 rfl rfl)
theorem dX7_canAct_44 : decode cX7_canAct 44 = .ok (.iload_n 1, 1) := dk_27 (dk_at dksX7_canAct_1 22 rfl rfl)
theorem dX7_canAct_45 : decode cX7_canAct 45 = .ok (.if_icmp .eq 13, 3) := dk_159 0 13 (dk_at dksX7_canAct_2 0 rfl rfl)
theorem dX7_canAct_48 : decode cX7_canAct 48 = .ok (.aload_n 0, 1) := dk_42 (dk_at dksX7_canAct_2 3 rfl rfl)
theorem dX7_canAct_49 : decode cX7_canAct 49 = .ok (.getfield 114, 3) := dk_180 0 114 (dk_at dksX7_canAct_2 4 rfl rfl)
theorem dX7_canAct_52 : decode cX7_canAct 52 = .ok (.iload_n 3, 1) := dk_29 (dk_at dksX7_canAct_2 7 rfl rfl)
theorem dX7_canAct_53 : decode cX7_canAct 53 = .ok (.iaload, 1) := dk_46 (dk_at dksX7_canAct_2 8 rfl rfl)
theorem dX7_canAct_54 : decode cX7_canAct 54 = .ok (.istore_n 3, 1) := dk_62 (dk_at dksX7_canAct_2 9 rfl rfl)
theorem dX7_canAct_55 : decode cX7_canAct 55 = .ok (.goto (-17), 3) := dk_167 255 239 (dk_at dksX7_canAct_2 10 rfl rfl)
theorem dX7_canAct_58 : decode cX7_canAct 58 = .ok (.aload_n 0, 1) := dk_42 (dk_at dksX7_canAct_2 13 rfl rfl)
theorem dX7_canAct_59 : decode cX7_canAct 59 = .ok (.getfield 189, 3) := dk_180 0 189 (dk_at dksX7_canAct_2 14 rfl rfl)
theorem dX7_canAct_62 : decode cX7_canAct 62 = .ok (.ifCond .ne 12, 3) := dk_154 0 12 (dk_at dksX7_canAct_2 17 rfl rfl)
theorem dX7_canAct_65 : decode cX7_canAct 65 = .ok (.iload_n 3, 1) := dk_29 (dk_at dksX7_canAct_2 20 rfl rfl)
theorem dX7_canAct_66 : decode cX7_canAct 66 = .ok (.iload_n 1, 1) := dk_27 (dk_at dksX7_canAct_2 21 rfl rfl)
theorem dX7_canAct_67 : decode cX7_canAct 67 = .ok (.if_icmp .ne 7, 3) := dk_160 0 7 (dk_at dksX7_canAct_3 0 rfl rfl)
theorem dX7_canAct_70 : decode cX7_canAct 70 = .ok (.iconst 1, 1) := dk_4 (dk_at dksX7_canAct_3 3 rfl rfl)
theorem dX7_canAct_71 : decode cX7_canAct 71 = .ok (.goto 4, 3) := dk_167 0 4 (dk_at dksX7_canAct_3 4 rfl rfl)
theorem dX7_canAct_74 : decode cX7_canAct 74 = .ok (.iconst 0, 1) := dk_3 (dk_at dksX7_canAct_3 7 rfl rfl)
theorem dX7_canAct_75 : decode cX7_canAct 75 = .ok (.ireturn, 1) := dk_172 (dk_at dksX7_canAct_3 8 rfl rfl)
abbrev cX7_group : ByteArray := prog_17_method_60_code
def yX7_group : MethodName := ⟨RX7, "group", "(IIII)I"⟩
def dkwX7_group_5 : List UInt8 := [180, 0, 129, 4, 96, 181, 0, 129, 42, 180, 0, 129, 4, 100, 172]
abbrev dktX7_group_5 : List UInt8 := dkwX7_group_5 ++ []
def dkwX7_group_4 : List UInt8 := [79, 42, 180, 0, 138, 42, 180, 0, 129, 29, 79, 42, 180, 0, 141, 42, 180, 0, 129, 21, 4, 79, 42, 89]
abbrev dktX7_group_4 : List UInt8 := dkwX7_group_4 ++ dktX7_group_5
def dkwX7_group_3 : List UInt8 := [158, 0, 5, 3, 172, 42, 180, 0, 132, 42, 180, 0, 129, 27, 79, 42, 180, 0, 135, 42, 180, 0, 129, 28]
abbrev dktX7_group_3 : List UInt8 := dkwX7_group_3 ++ dktX7_group_4
def dkwX7_group_2 : List UInt8 := [167, 0, 17, 42, 180, 0, 129, 16, 8, 160, 0, 7, 6, 167, 0, 4, 3, 181, 0, 189, 42, 180, 0, 189]
abbrev dktX7_group_2 : List UInt8 := dkwX7_group_2 ++ dktX7_group_3
def dkwX7_group_1 : List UInt8 := [3, 17, 39, 15, 184, 0, 192, 153, 0, 14, 21, 4, 4, 16, 99, 184, 0, 192, 154, 0, 7, 5]
abbrev dktX7_group_1 : List UInt8 := dkwX7_group_1 ++ dktX7_group_2
def dkwX7_group_0 : List UInt8 := [42, 42, 27, 182, 1, 76, 154, 0, 7, 4, 167, 0, 53, 28, 3, 16, 50, 184, 0, 192, 153, 0, 25, 29]
abbrev dktX7_group_0 : List UInt8 := dkwX7_group_0 ++ dktX7_group_1
theorem dksX7_group_0 : cX7_group.data.toList.drop 0 = dktX7_group_0 := by decide +kernel
theorem dksX7_group_1 : cX7_group.data.toList.drop 24 = dktX7_group_1 := dk_seg dksX7_group_0 24 rfl rfl
theorem dksX7_group_2 : cX7_group.data.toList.drop 46 = dktX7_group_2 := dk_seg dksX7_group_1 22 rfl rfl
theorem dksX7_group_3 : cX7_group.data.toList.drop 70 = dktX7_group_3 := dk_seg dksX7_group_2 24 rfl rfl
theorem dksX7_group_4 : cX7_group.data.toList.drop 94 = dktX7_group_4 := dk_seg dksX7_group_3 24 rfl rfl
theorem dksX7_group_5 : cX7_group.data.toList.drop 118 = dktX7_group_5 := dk_seg dksX7_group_4 24 rfl rfl
theorem dX7_group_0 : decode cX7_group 0 = .ok (.aload_n 0, 1) := dk_42 (dk_at dksX7_group_0 0 rfl rfl)
theorem dX7_group_1 : decode cX7_group 1 = .ok (.aload_n 0, 1) := dk_42 (dk_at dksX7_group_0 1 rfl rfl)
theorem dX7_group_2 : decode cX7_group 2 = .ok (.iload_n 1, 1) := dk_27 (dk_at dksX7_group_0 2 rfl rfl)
theorem dX7_group_3 : decode cX7_group 3 = .ok (.invokevirtual 332, 3) := dk_182 1 76 (dk_at dksX7_group_0 3 rfl rfl)
theorem dX7_group_6 : decode cX7_group 6 = .ok (.ifCond .ne 7, 3) := dk_154 0 7 (dk_at dksX7_group_0 6 rfl rfl)
theorem dX7_group_9 : decode cX7_group 9 = .ok (.iconst 1, 1) := dk_4 (dk_at dksX7_group_0 9 rfl rfl)
theorem dX7_group_10 : decode cX7_group 10 = .ok (.goto 53, 3) := dk_167 0 53 (dk_at dksX7_group_0 10 rfl rfl)
theorem dX7_group_13 : decode cX7_group 13 = .ok (.iload_n 2, 1) := dk_28 (dk_at dksX7_group_0 13 rfl rfl)
theorem dX7_group_14 : decode cX7_group 14 = .ok (.iconst 0, 1) := dk_3 (dk_at dksX7_group_0 14 rfl rfl)
theorem dX7_group_15 : decode cX7_group 15 = .ok (.bipush 50, 2) := dk_16 50 (dk_at dksX7_group_0 15 rfl rfl)
theorem dX7_group_17 : decode cX7_group 17 = .ok (.invokestatic 192, 3) := dk_184 0 192 (dk_at dksX7_group_0 17 rfl rfl)
theorem dX7_group_20 : decode cX7_group 20 = .ok (.ifCond .eq 25, 3) := dk_153 0 25 (dk_at dksX7_group_0 20 rfl rfl)
theorem dX7_group_23 : decode cX7_group 23 = .ok (.iload_n 3, 1) := dk_29 (dk_at dksX7_group_0 23 rfl rfl)
theorem dX7_group_24 : decode cX7_group 24 = .ok (.iconst 0, 1) := dk_3 (dk_at dksX7_group_1 0 rfl rfl)
theorem dX7_group_25 : decode cX7_group 25 = .ok (.sipush 9999, 3) := dk_17 39 15 (dk_at dksX7_group_1 1 rfl rfl)
theorem dX7_group_28 : decode cX7_group 28 = .ok (.invokestatic 192, 3) := dk_184 0 192 (dk_at dksX7_group_1 4 rfl rfl)
theorem dX7_group_31 : decode cX7_group 31 = .ok (.ifCond .eq 14, 3) := dk_153 0 14 (dk_at dksX7_group_1 7 rfl rfl)
theorem dX7_group_34 : decode cX7_group 34 = .ok (.iload 4, 2) := dk_21 4 (dk_at dksX7_group_1 10 rfl rfl)
theorem dX7_group_36 : decode cX7_group 36 = .ok (.iconst 1, 1) := dk_4 (dk_at dksX7_group_1 12 rfl rfl)
theorem dX7_group_37 : decode cX7_group 37 = .ok (.bipush 99, 2) := dk_16 99 (dk_at dksX7_group_1 13 rfl rfl)
theorem dX7_group_39 : decode cX7_group 39 = .ok (.invokestatic 192, 3) := dk_184 0 192 (dk_at dksX7_group_1 15 rfl rfl)
theorem dX7_group_42 : decode cX7_group 42 = .ok (.ifCond .ne 7, 3) := dk_154 0 7 (dk_at dksX7_group_1 18 rfl rfl)
theorem dX7_group_45 : decode cX7_group 45 = .ok (.iconst 2, 1) := dk_5 (dk_at dksX7_group_1 21 rfl rfl)
theorem dX7_group_46 : decode cX7_group 46 = .ok (.goto 17, 3) := dk_167 0 17 (dk_at dksX7_group_2 0 rfl rfl)
theorem dX7_group_49 : decode cX7_group 49 = .ok (.aload_n 0, 1) := dk_42 (dk_at dksX7_group_2 3 rfl rfl)
theorem dX7_group_50 : decode cX7_group 50 = .ok (.getfield 129, 3) := dk_180 0 129 (dk_at dksX7_group_2 4 rfl rfl)
theorem dX7_group_53 : decode cX7_group 53 = .ok (.bipush 8, 2) := dk_16 8 (dk_at dksX7_group_2 7 rfl rfl)
theorem dX7_group_55 : decode cX7_group 55 = .ok (.if_icmp .ne 7, 3) := dk_160 0 7 (dk_at dksX7_group_2 9 rfl rfl)
theorem dX7_group_58 : decode cX7_group 58 = .ok (.iconst 3, 1) := dk_6 (dk_at dksX7_group_2 12 rfl rfl)
theorem dX7_group_59 : decode cX7_group 59 = .ok (.goto 4, 3) := dk_167 0 4 (dk_at dksX7_group_2 13 rfl rfl)
theorem dX7_group_62 : decode cX7_group 62 = .ok (.iconst 0, 1) := dk_3 (dk_at dksX7_group_2 16 rfl rfl)
theorem dX7_group_63 : decode cX7_group 63 = .ok (.putfield 189, 3) := dk_181 0 189 (dk_at dksX7_group_2 17 rfl rfl)
theorem dX7_group_66 : decode cX7_group 66 = .ok (.aload_n 0, 1) := dk_42 (dk_at dksX7_group_2 20 rfl rfl)
theorem dX7_group_67 : decode cX7_group 67 = .ok (.getfield 189, 3) := dk_180 0 189 (dk_at dksX7_group_2 21 rfl rfl)
theorem dX7_group_70 : decode cX7_group 70 = .ok (.ifCond .le 5, 3) := dk_158 0 5 (dk_at dksX7_group_3 0 rfl rfl)
theorem dX7_group_73 : decode cX7_group 73 = .ok (.iconst 0, 1) := dk_3 (dk_at dksX7_group_3 3 rfl rfl)
theorem dX7_group_74 : decode cX7_group 74 = .ok (.ireturn, 1) := dk_172 (dk_at dksX7_group_3 4 rfl rfl)
theorem dX7_group_75 : decode cX7_group 75 = .ok (.aload_n 0, 1) := dk_42 (dk_at dksX7_group_3 5 rfl rfl)
theorem dX7_group_76 : decode cX7_group 76 = .ok (.getfield 132, 3) := dk_180 0 132 (dk_at dksX7_group_3 6 rfl rfl)
theorem dX7_group_79 : decode cX7_group 79 = .ok (.aload_n 0, 1) := dk_42 (dk_at dksX7_group_3 9 rfl rfl)
theorem dX7_group_80 : decode cX7_group 80 = .ok (.getfield 129, 3) := dk_180 0 129 (dk_at dksX7_group_3 10 rfl rfl)
theorem dX7_group_83 : decode cX7_group 83 = .ok (.iload_n 1, 1) := dk_27 (dk_at dksX7_group_3 13 rfl rfl)
theorem dX7_group_84 : decode cX7_group 84 = .ok (.iastore, 1) := dk_79 (dk_at dksX7_group_3 14 rfl rfl)
theorem dX7_group_85 : decode cX7_group 85 = .ok (.aload_n 0, 1) := dk_42 (dk_at dksX7_group_3 15 rfl rfl)
theorem dX7_group_86 : decode cX7_group 86 = .ok (.getfield 135, 3) := dk_180 0 135 (dk_at dksX7_group_3 16 rfl rfl)
theorem dX7_group_89 : decode cX7_group 89 = .ok (.aload_n 0, 1) := dk_42 (dk_at dksX7_group_3 19 rfl rfl)
theorem dX7_group_90 : decode cX7_group 90 = .ok (.getfield 129, 3) := dk_180 0 129 (dk_at dksX7_group_3 20 rfl rfl)
theorem dX7_group_93 : decode cX7_group 93 = .ok (.iload_n 2, 1) := dk_28 (dk_at dksX7_group_3 23 rfl rfl)
theorem dX7_group_94 : decode cX7_group 94 = .ok (.iastore, 1) := dk_79 (dk_at dksX7_group_4 0 rfl rfl)
theorem dX7_group_95 : decode cX7_group 95 = .ok (.aload_n 0, 1) := dk_42 (dk_at dksX7_group_4 1 rfl rfl)
theorem dX7_group_96 : decode cX7_group 96 = .ok (.getfield 138, 3) := dk_180 0 138 (dk_at dksX7_group_4 2 rfl rfl)
theorem dX7_group_99 : decode cX7_group 99 = .ok (.aload_n 0, 1) := dk_42 (dk_at dksX7_group_4 5 rfl rfl)
theorem dX7_group_100 : decode cX7_group 100 = .ok (.getfield 129, 3) := dk_180 0 129 (dk_at dksX7_group_4 6 rfl rfl)
theorem dX7_group_103 : decode cX7_group 103 = .ok (.iload_n 3, 1) := dk_29 (dk_at dksX7_group_4 9 rfl rfl)
theorem dX7_group_104 : decode cX7_group 104 = .ok (.iastore, 1) := dk_79 (dk_at dksX7_group_4 10 rfl rfl)
theorem dX7_group_105 : decode cX7_group 105 = .ok (.aload_n 0, 1) := dk_42 (dk_at dksX7_group_4 11 rfl rfl)
theorem dX7_group_106 : decode cX7_group 106 = .ok (.getfield 141, 3) := dk_180 0 141 (dk_at dksX7_group_4 12 rfl rfl)
theorem dX7_group_109 : decode cX7_group 109 = .ok (.aload_n 0, 1) := dk_42 (dk_at dksX7_group_4 15 rfl rfl)
theorem dX7_group_110 : decode cX7_group 110 = .ok (.getfield 129, 3) := dk_180 0 129 (dk_at dksX7_group_4 16 rfl rfl)
theorem dX7_group_113 : decode cX7_group 113 = .ok (.iload 4, 2) := dk_21 4 (dk_at dksX7_group_4 19 rfl rfl)
theorem dX7_group_115 : decode cX7_group 115 = .ok (.iastore, 1) := dk_79 (dk_at dksX7_group_4 21 rfl rfl)
theorem dX7_group_116 : decode cX7_group 116 = .ok (.aload_n 0, 1) := dk_42 (dk_at dksX7_group_4 22 rfl rfl)
theorem dX7_group_117 : decode cX7_group 117 = .ok (.dup, 1) := dk_89 (dk_at dksX7_group_4 23 rfl rfl)
theorem dX7_group_118 : decode cX7_group 118 = .ok (.getfield 129, 3) := dk_180 0 129 (dk_at dksX7_group_5 0 rfl rfl)
theorem dX7_group_121 : decode cX7_group 121 = .ok (.iconst 1, 1) := dk_4 (dk_at dksX7_group_5 3 rfl rfl)
theorem dX7_group_122 : decode cX7_group 122 = .ok (.iadd, 1) := dk_96 (dk_at dksX7_group_5 4 rfl rfl)
theorem dX7_group_123 : decode cX7_group 123 = .ok (.putfield 129, 3) := dk_181 0 129 (dk_at dksX7_group_5 5 rfl rfl)
theorem dX7_group_126 : decode cX7_group 126 = .ok (.aload_n 0, 1) := dk_42 (dk_at dksX7_group_5 8 rfl rfl)
theorem dX7_group_127 : decode cX7_group 127 = .ok (.getfield 129, 3) := dk_180 0 129 (dk_at dksX7_group_5 9 rfl rfl)
theorem dX7_group_130 : decode cX7_group 130 = .ok (.iconst 1, 1) := dk_4 (dk_at dksX7_group_5 12 rfl rfl)
theorem dX7_group_131 : decode cX7_group 131 = .ok (.isub, 1) := dk_100 (dk_at dksX7_group_5 13 rfl rfl)
theorem dX7_group_132 : decode cX7_group 132 = .ok (.ireturn, 1) := dk_172 (dk_at dksX7_group_5 14 rfl rfl)
abbrev cX7_isGroup : ByteArray := prog_17_method_59_code
def yX7_isGroup : MethodName := ⟨RX7, "isGroup", "(I)Z"⟩
def dkwX7_isGroup_0 : List UInt8 := [27, 3, 42, 180, 0, 129, 4, 100, 184, 0, 192, 172]
abbrev dktX7_isGroup_0 : List UInt8 := dkwX7_isGroup_0 ++ []
theorem dksX7_isGroup_0 : cX7_isGroup.data.toList.drop 0 = dktX7_isGroup_0 := by decide +kernel
theorem dX7_isGroup_0 : decode cX7_isGroup 0 = .ok (.iload_n 1, 1) := dk_27 (dk_at dksX7_isGroup_0 0 rfl rfl)
theorem dX7_isGroup_1 : decode cX7_isGroup 1 = .ok (.iconst 0, 1) := dk_3 (dk_at dksX7_isGroup_0 1 rfl rfl)
theorem dX7_isGroup_2 : decode cX7_isGroup 2 = .ok (.aload_n 0, 1) := dk_42 (dk_at dksX7_isGroup_0 2 rfl rfl)
theorem dX7_isGroup_3 : decode cX7_isGroup 3 = .ok (.getfield 129, 3) := dk_180 0 129 (dk_at dksX7_isGroup_0 3 rfl rfl)
theorem dX7_isGroup_6 : decode cX7_isGroup 6 = .ok (.iconst 1, 1) := dk_4 (dk_at dksX7_isGroup_0 6 rfl rfl)
theorem dX7_isGroup_7 : decode cX7_isGroup 7 = .ok (.isub, 1) := dk_100 (dk_at dksX7_isGroup_0 7 rfl rfl)
theorem dX7_isGroup_8 : decode cX7_isGroup 8 = .ok (.invokestatic 192, 3) := dk_184 0 192 (dk_at dksX7_isGroup_0 8 rfl rfl)
theorem dX7_isGroup_11 : decode cX7_isGroup 11 = .ok (.ireturn, 1) := dk_172 (dk_at dksX7_isGroup_0 11 rfl rfl)
abbrev cX7_run : ByteArray := prog_17_method_63_code
def yX7_run : MethodName := ⟨RX7, "run", "(II)I"⟩
def dkwX7_run_6 : List UInt8 := [21, 4, 3, 79, 42, 89, 180, 1, 86, 4, 96, 181, 1, 86, 42, 180, 1, 86, 4, 100, 172]
abbrev dktX7_run_6 : List UInt8 := dkwX7_run_6 ++ []
def dkwX7_run_5 : List UInt8 := [180, 1, 86, 79, 42, 180, 0, 147, 21, 4, 29, 79, 42, 180, 0, 150, 21, 4, 28, 79, 42, 180, 0, 153]
abbrev dktX7_run_5 : List UInt8 := dkwX7_run_5 ++ dktX7_run_6
def dkwX7_run_4 : List UInt8 := [180, 0, 144, 21, 4, 46, 2, 159, 0, 9, 132, 4, 1, 167, 255, 242, 42, 180, 0, 144, 21, 4, 42]
abbrev dktX7_run_4 : List UInt8 := dkwX7_run_4 ++ dktX7_run_5
def dkwX7_run_3 : List UInt8 := [180, 0, 132, 21, 4, 46, 54, 4, 167, 255, 208, 42, 180, 0, 189, 158, 0, 5, 3, 172, 3, 54, 4, 42]
abbrev dktX7_run_3 : List UInt8 := dkwX7_run_3 ++ dktX7_run_4
def dkwX7_run_2 : List UInt8 := [3, 182, 1, 82, 42, 180, 0, 135, 21, 4, 46, 161, 0, 7, 5, 167, 0, 4, 3, 181, 0, 189, 42]
abbrev dktX7_run_2 : List UInt8 := dkwX7_run_2 ++ dktX7_run_3
def dkwX7_run_1 : List UInt8 := [3, 181, 0, 189, 28, 54, 4, 42, 180, 0, 189, 154, 0, 47, 21, 4, 2, 159, 0, 41, 42, 42, 21, 4]
abbrev dktX7_run_1 : List UInt8 := dkwX7_run_1 ++ dktX7_run_2
def dkwX7_run_0 : List UInt8 := [42, 27, 182, 1, 24, 62, 42, 29, 2, 159, 0, 11, 42, 28, 182, 1, 76, 154, 0, 7, 4, 167, 0, 4]
abbrev dktX7_run_0 : List UInt8 := dkwX7_run_0 ++ dktX7_run_1
theorem dksX7_run_0 : cX7_run.data.toList.drop 0 = dktX7_run_0 := by decide +kernel
theorem dksX7_run_1 : cX7_run.data.toList.drop 24 = dktX7_run_1 := dk_seg dksX7_run_0 24 rfl rfl
theorem dksX7_run_2 : cX7_run.data.toList.drop 48 = dktX7_run_2 := dk_seg dksX7_run_1 24 rfl rfl
theorem dksX7_run_3 : cX7_run.data.toList.drop 71 = dktX7_run_3 := dk_seg dksX7_run_2 23 rfl rfl
theorem dksX7_run_4 : cX7_run.data.toList.drop 95 = dktX7_run_4 := dk_seg dksX7_run_3 24 rfl rfl
theorem dksX7_run_5 : cX7_run.data.toList.drop 118 = dktX7_run_5 := dk_seg dksX7_run_4 23 rfl rfl
theorem dksX7_run_6 : cX7_run.data.toList.drop 142 = dktX7_run_6 := dk_seg dksX7_run_5 24 rfl rfl
theorem dX7_run_0 : decode cX7_run 0 = .ok (.aload_n 0, 1) := dk_42 (dk_at dksX7_run_0 0 rfl rfl)
theorem dX7_run_1 : decode cX7_run 1 = .ok (.iload_n 1, 1) := dk_27 (dk_at dksX7_run_0 1 rfl rfl)
theorem dX7_run_2 : decode cX7_run 2 = .ok (.invokevirtual 280, 3) := dk_182 1 24 (dk_at dksX7_run_0 2 rfl rfl)
theorem dX7_run_5 : decode cX7_run 5 = .ok (.istore_n 3, 1) := dk_62 (dk_at dksX7_run_0 5 rfl rfl)
theorem dX7_run_6 : decode cX7_run 6 = .ok (.aload_n 0, 1) := dk_42 (dk_at dksX7_run_0 6 rfl rfl)
theorem dX7_run_7 : decode cX7_run 7 = .ok (.iload_n 3, 1) := dk_29 (dk_at dksX7_run_0 7 rfl rfl)
theorem dX7_run_8 : decode cX7_run 8 = .ok (.iconst (-1), 1) := dk_2 (dk_at dksX7_run_0 8 rfl rfl)
theorem dX7_run_9 : decode cX7_run 9 = .ok (.if_icmp .eq 11, 3) := dk_159 0 11 (dk_at dksX7_run_0 9 rfl rfl)
theorem dX7_run_12 : decode cX7_run 12 = .ok (.aload_n 0, 1) := dk_42 (dk_at dksX7_run_0 12 rfl rfl)
theorem dX7_run_13 : decode cX7_run 13 = .ok (.iload_n 2, 1) := dk_28 (dk_at dksX7_run_0 13 rfl rfl)
theorem dX7_run_14 : decode cX7_run 14 = .ok (.invokevirtual 332, 3) := dk_182 1 76 (dk_at dksX7_run_0 14 rfl rfl)
theorem dX7_run_17 : decode cX7_run 17 = .ok (.ifCond .ne 7, 3) := dk_154 0 7 (dk_at dksX7_run_0 17 rfl rfl)
theorem dX7_run_20 : decode cX7_run 20 = .ok (.iconst 1, 1) := dk_4 (dk_at dksX7_run_0 20 rfl rfl)
theorem dX7_run_21 : decode cX7_run 21 = .ok (.goto 4, 3) := dk_167 0 4 (dk_at dksX7_run_0 21 rfl rfl)
theorem dX7_run_24 : decode cX7_run 24 = .ok (.iconst 0, 1) := dk_3 (dk_at dksX7_run_1 0 rfl rfl)
theorem dX7_run_25 : decode cX7_run 25 = .ok (.putfield 189, 3) := dk_181 0 189 (dk_at dksX7_run_1 1 rfl rfl)
theorem dX7_run_28 : decode cX7_run 28 = .ok (.iload_n 2, 1) := dk_28 (dk_at dksX7_run_1 4 rfl rfl)
theorem dX7_run_29 : decode cX7_run 29 = .ok (.istore 4, 2) := dk_54 4 (dk_at dksX7_run_1 5 rfl rfl)
theorem dX7_run_31 : decode cX7_run 31 = .ok (.aload_n 0, 1) := dk_42 (dk_at dksX7_run_1 7 rfl rfl)
theorem dX7_run_32 : decode cX7_run 32 = .ok (.getfield 189, 3) := dk_180 0 189 (dk_at dksX7_run_1 8 rfl rfl)
theorem dX7_run_35 : decode cX7_run 35 = .ok (.ifCond .ne 47, 3) := dk_154 0 47 (dk_at dksX7_run_1 11 rfl rfl)
theorem dX7_run_38 : decode cX7_run 38 = .ok (.iload 4, 2) := dk_21 4 (dk_at dksX7_run_1 14 rfl rfl)
theorem dX7_run_40 : decode cX7_run 40 = .ok (.iconst (-1), 1) := dk_2 (dk_at dksX7_run_1 16 rfl rfl)
theorem dX7_run_41 : decode cX7_run 41 = .ok (.if_icmp .eq 41, 3) := dk_159 0 41 (dk_at dksX7_run_1 17 rfl rfl)
theorem dX7_run_44 : decode cX7_run 44 = .ok (.aload_n 0, 1) := dk_42 (dk_at dksX7_run_1 20 rfl rfl)
theorem dX7_run_45 : decode cX7_run 45 = .ok (.aload_n 0, 1) := dk_42 (dk_at dksX7_run_1 21 rfl rfl)
theorem dX7_run_46 : decode cX7_run 46 = .ok (.iload 4, 2) := dk_21 4 (dk_at dksX7_run_1 22 rfl rfl)
theorem dX7_run_48 : decode cX7_run 48 = .ok (.iconst 0, 1) := dk_3 (dk_at dksX7_run_2 0 rfl rfl)
theorem dX7_run_49 : decode cX7_run 49 = .ok (.invokevirtual 338, 3) := dk_182 1 82 (dk_at dksX7_run_2 1 rfl rfl)
theorem dX7_run_52 : decode cX7_run 52 = .ok (.aload_n 0, 1) := dk_42 (dk_at dksX7_run_2 4 rfl rfl)
theorem dX7_run_53 : decode cX7_run 53 = .ok (.getfield 135, 3) := dk_180 0 135 (dk_at dksX7_run_2 5 rfl rfl)
theorem dX7_run_56 : decode cX7_run 56 = .ok (.iload 4, 2) := dk_21 4 (dk_at dksX7_run_2 8 rfl rfl)
theorem dX7_run_58 : decode cX7_run 58 = .ok (.iaload, 1) := dk_46 (dk_at dksX7_run_2 10 rfl rfl)
theorem dX7_run_59 : decode cX7_run 59 = .ok (.if_icmp .lt 7, 3) := dk_161 0 7 (dk_at dksX7_run_2 11 rfl rfl)
theorem dX7_run_62 : decode cX7_run 62 = .ok (.iconst 2, 1) := dk_5 (dk_at dksX7_run_2 14 rfl rfl)
theorem dX7_run_63 : decode cX7_run 63 = .ok (.goto 4, 3) := dk_167 0 4 (dk_at dksX7_run_2 15 rfl rfl)
theorem dX7_run_66 : decode cX7_run 66 = .ok (.iconst 0, 1) := dk_3 (dk_at dksX7_run_2 18 rfl rfl)
theorem dX7_run_67 : decode cX7_run 67 = .ok (.putfield 189, 3) := dk_181 0 189 (dk_at dksX7_run_2 19 rfl rfl)
theorem dX7_run_70 : decode cX7_run 70 = .ok (.aload_n 0, 1) := dk_42 (dk_at dksX7_run_2 22 rfl rfl)
theorem dX7_run_71 : decode cX7_run 71 = .ok (.getfield 132, 3) := dk_180 0 132 (dk_at dksX7_run_3 0 rfl rfl)
theorem dX7_run_74 : decode cX7_run 74 = .ok (.iload 4, 2) := dk_21 4 (dk_at dksX7_run_3 3 rfl rfl)
theorem dX7_run_76 : decode cX7_run 76 = .ok (.iaload, 1) := dk_46 (dk_at dksX7_run_3 5 rfl rfl)
theorem dX7_run_77 : decode cX7_run 77 = .ok (.istore 4, 2) := dk_54 4 (dk_at dksX7_run_3 6 rfl rfl)
theorem dX7_run_79 : decode cX7_run 79 = .ok (.goto (-48), 3) := dk_167 255 208 (dk_at dksX7_run_3 8 rfl rfl)
theorem dX7_run_82 : decode cX7_run 82 = .ok (.aload_n 0, 1) := dk_42 (dk_at dksX7_run_3 11 rfl rfl)
theorem dX7_run_83 : decode cX7_run 83 = .ok (.getfield 189, 3) := dk_180 0 189 (dk_at dksX7_run_3 12 rfl rfl)
theorem dX7_run_86 : decode cX7_run 86 = .ok (.ifCond .le 5, 3) := dk_158 0 5 (dk_at dksX7_run_3 15 rfl rfl)
theorem dX7_run_89 : decode cX7_run 89 = .ok (.iconst 0, 1) := dk_3 (dk_at dksX7_run_3 18 rfl rfl)
theorem dX7_run_90 : decode cX7_run 90 = .ok (.ireturn, 1) := dk_172 (dk_at dksX7_run_3 19 rfl rfl)
theorem dX7_run_91 : decode cX7_run 91 = .ok (.iconst 0, 1) := dk_3 (dk_at dksX7_run_3 20 rfl rfl)
theorem dX7_run_92 : decode cX7_run 92 = .ok (.istore 4, 2) := dk_54 4 (dk_at dksX7_run_3 21 rfl rfl)
theorem dX7_run_94 : decode cX7_run 94 = .ok (.aload_n 0, 1) := dk_42 (dk_at dksX7_run_3 23 rfl rfl)
theorem dX7_run_95 : decode cX7_run 95 = .ok (.getfield 144, 3) := dk_180 0 144 (dk_at dksX7_run_4 0 rfl rfl)
theorem dX7_run_98 : decode cX7_run 98 = .ok (.iload 4, 2) := dk_21 4 (dk_at dksX7_run_4 3 rfl rfl)
theorem dX7_run_100 : decode cX7_run 100 = .ok (.iaload, 1) := dk_46 (dk_at dksX7_run_4 5 rfl rfl)
theorem dX7_run_101 : decode cX7_run 101 = .ok (.iconst (-1), 1) := dk_2 (dk_at dksX7_run_4 6 rfl rfl)
theorem dX7_run_102 : decode cX7_run 102 = .ok (.if_icmp .eq 9, 3) := dk_159 0 9 (dk_at dksX7_run_4 7 rfl rfl)
theorem dX7_run_105 : decode cX7_run 105 = .ok (.iinc 4 1, 3) := dk_132 4 1 (dk_at dksX7_run_4 10 rfl rfl)
theorem dX7_run_108 : decode cX7_run 108 = .ok (.goto (-14), 3) := dk_167 255 242 (dk_at dksX7_run_4 13 rfl rfl)
theorem dX7_run_111 : decode cX7_run 111 = .ok (.aload_n 0, 1) := dk_42 (dk_at dksX7_run_4 16 rfl rfl)
theorem dX7_run_112 : decode cX7_run 112 = .ok (.getfield 144, 3) := dk_180 0 144 (dk_at dksX7_run_4 17 rfl rfl)
theorem dX7_run_115 : decode cX7_run 115 = .ok (.iload 4, 2) := dk_21 4 (dk_at dksX7_run_4 20 rfl rfl)
theorem dX7_run_117 : decode cX7_run 117 = .ok (.aload_n 0, 1) := dk_42 (dk_at dksX7_run_4 22 rfl rfl)
theorem dX7_run_118 : decode cX7_run 118 = .ok (.getfield 342, 3) := dk_180 1 86 (dk_at dksX7_run_5 0 rfl rfl)
theorem dX7_run_121 : decode cX7_run 121 = .ok (.iastore, 1) := dk_79 (dk_at dksX7_run_5 3 rfl rfl)
theorem dX7_run_122 : decode cX7_run 122 = .ok (.aload_n 0, 1) := dk_42 (dk_at dksX7_run_5 4 rfl rfl)
theorem dX7_run_123 : decode cX7_run 123 = .ok (.getfield 147, 3) := dk_180 0 147 (dk_at dksX7_run_5 5 rfl rfl)
theorem dX7_run_126 : decode cX7_run 126 = .ok (.iload 4, 2) := dk_21 4 (dk_at dksX7_run_5 8 rfl rfl)
theorem dX7_run_128 : decode cX7_run 128 = .ok (.iload_n 3, 1) := dk_29 (dk_at dksX7_run_5 10 rfl rfl)
theorem dX7_run_129 : decode cX7_run 129 = .ok (.iastore, 1) := dk_79 (dk_at dksX7_run_5 11 rfl rfl)
theorem dX7_run_130 : decode cX7_run 130 = .ok (.aload_n 0, 1) := dk_42 (dk_at dksX7_run_5 12 rfl rfl)
theorem dX7_run_131 : decode cX7_run 131 = .ok (.getfield 150, 3) := dk_180 0 150 (dk_at dksX7_run_5 13 rfl rfl)
theorem dX7_run_134 : decode cX7_run 134 = .ok (.iload 4, 2) := dk_21 4 (dk_at dksX7_run_5 16 rfl rfl)
theorem dX7_run_136 : decode cX7_run 136 = .ok (.iload_n 2, 1) := dk_28 (dk_at dksX7_run_5 18 rfl rfl)
theorem dX7_run_137 : decode cX7_run 137 = .ok (.iastore, 1) := dk_79 (dk_at dksX7_run_5 19 rfl rfl)
theorem dX7_run_138 : decode cX7_run 138 = .ok (.aload_n 0, 1) := dk_42 (dk_at dksX7_run_5 20 rfl rfl)
theorem dX7_run_139 : decode cX7_run 139 = .ok (.getfield 153, 3) := dk_180 0 153 (dk_at dksX7_run_5 21 rfl rfl)
theorem dX7_run_142 : decode cX7_run 142 = .ok (.iload 4, 2) := dk_21 4 (dk_at dksX7_run_6 0 rfl rfl)
theorem dX7_run_144 : decode cX7_run 144 = .ok (.iconst 0, 1) := dk_3 (dk_at dksX7_run_6 2 rfl rfl)
theorem dX7_run_145 : decode cX7_run 145 = .ok (.iastore, 1) := dk_79 (dk_at dksX7_run_6 3 rfl rfl)
theorem dX7_run_146 : decode cX7_run 146 = .ok (.aload_n 0, 1) := dk_42 (dk_at dksX7_run_6 4 rfl rfl)
theorem dX7_run_147 : decode cX7_run 147 = .ok (.dup, 1) := dk_89 (dk_at dksX7_run_6 5 rfl rfl)
theorem dX7_run_148 : decode cX7_run 148 = .ok (.getfield 342, 3) := dk_180 1 86 (dk_at dksX7_run_6 6 rfl rfl)
theorem dX7_run_151 : decode cX7_run 151 = .ok (.iconst 1, 1) := dk_4 (dk_at dksX7_run_6 9 rfl rfl)
theorem dX7_run_152 : decode cX7_run 152 = .ok (.iadd, 1) := dk_96 (dk_at dksX7_run_6 10 rfl rfl)
theorem dX7_run_153 : decode cX7_run 153 = .ok (.putfield 342, 3) := dk_181 1 86 (dk_at dksX7_run_6 11 rfl rfl)
theorem dX7_run_156 : decode cX7_run 156 = .ok (.aload_n 0, 1) := dk_42 (dk_at dksX7_run_6 14 rfl rfl)
theorem dX7_run_157 : decode cX7_run 157 = .ok (.getfield 342, 3) := dk_180 1 86 (dk_at dksX7_run_6 15 rfl rfl)
theorem dX7_run_160 : decode cX7_run 160 = .ok (.iconst 1, 1) := dk_4 (dk_at dksX7_run_6 18 rfl rfl)
theorem dX7_run_161 : decode cX7_run 161 = .ok (.isub, 1) := dk_100 (dk_at dksX7_run_6 19 rfl rfl)
theorem dX7_run_162 : decode cX7_run 162 = .ok (.ireturn, 1) := dk_172 (dk_at dksX7_run_6 20 rfl rfl)
abbrev cX7_counts : ByteArray := prog_17_method_62_code
def yX7_counts : MethodName := ⟨RX7, "counts", "(IZ)I"⟩
def dkwX7_counts_2 : List UInt8 := [21, 4, 46, 167, 0, 8, 4, 167, 0, 4, 3, 96, 62, 132, 4, 1, 167, 255, 198, 29, 172]
abbrev dktX7_counts_2 : List UInt8 := dkwX7_counts_2 ++ []
def dkwX7_counts_1 : List UInt8 := [42, 42, 180, 0, 150, 21, 4, 46, 27, 182, 1, 79, 153, 0, 21, 28, 153, 0, 13, 42, 180, 0, 153]
abbrev dktX7_counts_1 : List UInt8 := dkwX7_counts_1 ++ dktX7_counts_2
def dkwX7_counts_0 : List UInt8 := [3, 62, 3, 54, 4, 21, 4, 16, 50, 162, 0, 57, 29, 42, 180, 0, 144, 21, 4, 46, 2, 159, 0, 36]
abbrev dktX7_counts_0 : List UInt8 := dkwX7_counts_0 ++ dktX7_counts_1
theorem dksX7_counts_0 : cX7_counts.data.toList.drop 0 = dktX7_counts_0 := by decide +kernel
theorem dksX7_counts_1 : cX7_counts.data.toList.drop 24 = dktX7_counts_1 := dk_seg dksX7_counts_0 24 rfl rfl
theorem dksX7_counts_2 : cX7_counts.data.toList.drop 47 = dktX7_counts_2 := dk_seg dksX7_counts_1 23 rfl rfl
theorem dX7_counts_0 : decode cX7_counts 0 = .ok (.iconst 0, 1) := dk_3 (dk_at dksX7_counts_0 0 rfl rfl)
theorem dX7_counts_1 : decode cX7_counts 1 = .ok (.istore_n 3, 1) := dk_62 (dk_at dksX7_counts_0 1 rfl rfl)
theorem dX7_counts_2 : decode cX7_counts 2 = .ok (.iconst 0, 1) := dk_3 (dk_at dksX7_counts_0 2 rfl rfl)
theorem dX7_counts_3 : decode cX7_counts 3 = .ok (.istore 4, 2) := dk_54 4 (dk_at dksX7_counts_0 3 rfl rfl)
theorem dX7_counts_5 : decode cX7_counts 5 = .ok (.iload 4, 2) := dk_21 4 (dk_at dksX7_counts_0 5 rfl rfl)
theorem dX7_counts_7 : decode cX7_counts 7 = .ok (.bipush 50, 2) := dk_16 50 (dk_at dksX7_counts_0 7 rfl rfl)
theorem dX7_counts_9 : decode cX7_counts 9 = .ok (.if_icmp .ge 57, 3) := dk_162 0 57 (dk_at dksX7_counts_0 9 rfl rfl)
theorem dX7_counts_12 : decode cX7_counts 12 = .ok (.iload_n 3, 1) := dk_29 (dk_at dksX7_counts_0 12 rfl rfl)
theorem dX7_counts_13 : decode cX7_counts 13 = .ok (.aload_n 0, 1) := dk_42 (dk_at dksX7_counts_0 13 rfl rfl)
theorem dX7_counts_14 : decode cX7_counts 14 = .ok (.getfield 144, 3) := dk_180 0 144 (dk_at dksX7_counts_0 14 rfl rfl)
theorem dX7_counts_17 : decode cX7_counts 17 = .ok (.iload 4, 2) := dk_21 4 (dk_at dksX7_counts_0 17 rfl rfl)
theorem dX7_counts_19 : decode cX7_counts 19 = .ok (.iaload, 1) := dk_46 (dk_at dksX7_counts_0 19 rfl rfl)
theorem dX7_counts_20 : decode cX7_counts 20 = .ok (.iconst (-1), 1) := dk_2 (dk_at dksX7_counts_0 20 rfl rfl)
theorem dX7_counts_21 : decode cX7_counts 21 = .ok (.if_icmp .eq 36, 3) := dk_159 0 36 (dk_at dksX7_counts_0 21 rfl rfl)
theorem dX7_counts_24 : decode cX7_counts 24 = .ok (.aload_n 0, 1) := dk_42 (dk_at dksX7_counts_1 0 rfl rfl)
theorem dX7_counts_25 : decode cX7_counts 25 = .ok (.aload_n 0, 1) := dk_42 (dk_at dksX7_counts_1 1 rfl rfl)
theorem dX7_counts_26 : decode cX7_counts 26 = .ok (.getfield 150, 3) := dk_180 0 150 (dk_at dksX7_counts_1 2 rfl rfl)
theorem dX7_counts_29 : decode cX7_counts 29 = .ok (.iload 4, 2) := dk_21 4 (dk_at dksX7_counts_1 5 rfl rfl)
theorem dX7_counts_31 : decode cX7_counts 31 = .ok (.iaload, 1) := dk_46 (dk_at dksX7_counts_1 7 rfl rfl)
theorem dX7_counts_32 : decode cX7_counts 32 = .ok (.iload_n 1, 1) := dk_27 (dk_at dksX7_counts_1 8 rfl rfl)
theorem dX7_counts_33 : decode cX7_counts 33 = .ok (.invokevirtual 335, 3) := dk_182 1 79 (dk_at dksX7_counts_1 9 rfl rfl)
theorem dX7_counts_36 : decode cX7_counts 36 = .ok (.ifCond .eq 21, 3) := dk_153 0 21 (dk_at dksX7_counts_1 12 rfl rfl)
theorem dX7_counts_39 : decode cX7_counts 39 = .ok (.iload_n 2, 1) := dk_28 (dk_at dksX7_counts_1 15 rfl rfl)
theorem dX7_counts_40 : decode cX7_counts 40 = .ok (.ifCond .eq 13, 3) := dk_153 0 13 (dk_at dksX7_counts_1 16 rfl rfl)
theorem dX7_counts_43 : decode cX7_counts 43 = .ok (.aload_n 0, 1) := dk_42 (dk_at dksX7_counts_1 19 rfl rfl)
theorem dX7_counts_44 : decode cX7_counts 44 = .ok (.getfield 153, 3) := dk_180 0 153 (dk_at dksX7_counts_1 20 rfl rfl)
theorem dX7_counts_47 : decode cX7_counts 47 = .ok (.iload 4, 2) := dk_21 4 (dk_at dksX7_counts_2 0 rfl rfl)
theorem dX7_counts_49 : decode cX7_counts 49 = .ok (.iaload, 1) := dk_46 (dk_at dksX7_counts_2 2 rfl rfl)
theorem dX7_counts_50 : decode cX7_counts 50 = .ok (.goto 8, 3) := dk_167 0 8 (dk_at dksX7_counts_2 3 rfl rfl)
theorem dX7_counts_53 : decode cX7_counts 53 = .ok (.iconst 1, 1) := dk_4 (dk_at dksX7_counts_2 6 rfl rfl)
theorem dX7_counts_54 : decode cX7_counts 54 = .ok (.goto 4, 3) := dk_167 0 4 (dk_at dksX7_counts_2 7 rfl rfl)
theorem dX7_counts_57 : decode cX7_counts 57 = .ok (.iconst 0, 1) := dk_3 (dk_at dksX7_counts_2 10 rfl rfl)
theorem dX7_counts_58 : decode cX7_counts 58 = .ok (.iadd, 1) := dk_96 (dk_at dksX7_counts_2 11 rfl rfl)
theorem dX7_counts_59 : decode cX7_counts 59 = .ok (.istore_n 3, 1) := dk_62 (dk_at dksX7_counts_2 12 rfl rfl)
theorem dX7_counts_60 : decode cX7_counts 60 = .ok (.iinc 4 1, 3) := dk_132 4 1 (dk_at dksX7_counts_2 13 rfl rfl)
theorem dX7_counts_63 : decode cX7_counts 63 = .ok (.goto (-58), 3) := dk_167 255 198 (dk_at dksX7_counts_2 16 rfl rfl)
theorem dX7_counts_66 : decode cX7_counts 66 = .ok (.iload_n 3, 1) := dk_29 (dk_at dksX7_counts_2 19 rfl rfl)
theorem dX7_counts_67 : decode cX7_counts 67 = .ok (.ireturn, 1) := dk_172 (dk_at dksX7_counts_2 20 rfl rfl)
abbrev cX7_isBelow : ByteArray := prog_17_method_61_code
def yX7_isBelow : MethodName := ⟨RX7, "isBelow", "(II)Z"⟩
def dkwX7_isBelow_1 : List UInt8 := [160, 0, 7, 4, 167, 0, 4, 3, 172]
abbrev dktX7_isBelow_1 : List UInt8 := dkwX7_isBelow_1 ++ []
def dkwX7_isBelow_0 : List UInt8 := [27, 62, 29, 2, 159, 0, 18, 29, 28, 159, 0, 13, 42, 180, 0, 132, 29, 46, 62, 167, 255, 239, 29, 28]
abbrev dktX7_isBelow_0 : List UInt8 := dkwX7_isBelow_0 ++ dktX7_isBelow_1
theorem dksX7_isBelow_0 : cX7_isBelow.data.toList.drop 0 = dktX7_isBelow_0 := by decide +kernel
theorem dksX7_isBelow_1 : cX7_isBelow.data.toList.drop 24 = dktX7_isBelow_1 := dk_seg dksX7_isBelow_0 24 rfl rfl
theorem dX7_isBelow_0 : decode cX7_isBelow 0 = .ok (.iload_n 1, 1) := dk_27 (dk_at dksX7_isBelow_0 0 rfl rfl)
theorem dX7_isBelow_1 : decode cX7_isBelow 1 = .ok (.istore_n 3, 1) := dk_62 (dk_at dksX7_isBelow_0 1 rfl rfl)
theorem dX7_isBelow_2 : decode cX7_isBelow 2 = .ok (.iload_n 3, 1) := dk_29 (dk_at dksX7_isBelow_0 2 rfl rfl)
theorem dX7_isBelow_3 : decode cX7_isBelow 3 = .ok (.iconst (-1), 1) := dk_2 (dk_at dksX7_isBelow_0 3 rfl rfl)
theorem dX7_isBelow_4 : decode cX7_isBelow 4 = .ok (.if_icmp .eq 18, 3) := dk_159 0 18 (dk_at dksX7_isBelow_0 4 rfl rfl)
theorem dX7_isBelow_7 : decode cX7_isBelow 7 = .ok (.iload_n 3, 1) := dk_29 (dk_at dksX7_isBelow_0 7 rfl rfl)
theorem dX7_isBelow_8 : decode cX7_isBelow 8 = .ok (.iload_n 2, 1) := dk_28 (dk_at dksX7_isBelow_0 8 rfl rfl)
theorem dX7_isBelow_9 : decode cX7_isBelow 9 = .ok (.if_icmp .eq 13, 3) := dk_159 0 13 (dk_at dksX7_isBelow_0 9 rfl rfl)
theorem dX7_isBelow_12 : decode cX7_isBelow 12 = .ok (.aload_n 0, 1) := dk_42 (dk_at dksX7_isBelow_0 12 rfl rfl)
theorem dX7_isBelow_13 : decode cX7_isBelow 13 = .ok (.getfield 132, 3) := dk_180 0 132 (dk_at dksX7_isBelow_0 13 rfl rfl)
theorem dX7_isBelow_16 : decode cX7_isBelow 16 = .ok (.iload_n 3, 1) := dk_29 (dk_at dksX7_isBelow_0 16 rfl rfl)
theorem dX7_isBelow_17 : decode cX7_isBelow 17 = .ok (.iaload, 1) := dk_46 (dk_at dksX7_isBelow_0 17 rfl rfl)
theorem dX7_isBelow_18 : decode cX7_isBelow 18 = .ok (.istore_n 3, 1) := dk_62 (dk_at dksX7_isBelow_0 18 rfl rfl)
theorem dX7_isBelow_19 : decode cX7_isBelow 19 = .ok (.goto (-17), 3) := dk_167 255 239 (dk_at dksX7_isBelow_0 19 rfl rfl)
theorem dX7_isBelow_22 : decode cX7_isBelow 22 = .ok (.iload_n 3, 1) := dk_29 (dk_at dksX7_isBelow_0 22 rfl rfl)
theorem dX7_isBelow_23 : decode cX7_isBelow 23 = .ok (.iload_n 2, 1) := dk_28 (dk_at dksX7_isBelow_0 23 rfl rfl)
theorem dX7_isBelow_24 : decode cX7_isBelow 24 = .ok (.if_icmp .ne 7, 3) := dk_160 0 7 (dk_at dksX7_isBelow_1 0 rfl rfl)
theorem dX7_isBelow_27 : decode cX7_isBelow 27 = .ok (.iconst 1, 1) := dk_4 (dk_at dksX7_isBelow_1 3 rfl rfl)
theorem dX7_isBelow_28 : decode cX7_isBelow 28 = .ok (.goto 4, 3) := dk_167 0 4 (dk_at dksX7_isBelow_1 4 rfl rfl)
theorem dX7_isBelow_31 : decode cX7_isBelow 31 = .ok (.iconst 0, 1) := dk_3 (dk_at dksX7_isBelow_1 7 rfl rfl)
theorem dX7_isBelow_32 : decode cX7_isBelow 32 = .ok (.ireturn, 1) := dk_172 (dk_at dksX7_isBelow_1 8 rfl rfl)
abbrev cX7_give : ByteArray := prog_17_method_65_code
def yX7_give : MethodName := ⟨RX7, "give", "(II)I"⟩
def dkwX7_give_10 : List UInt8 := [167, 255, 92, 42, 180, 0, 132, 21, 5, 46, 54, 5, 167, 255, 74, 21, 4, 172]
abbrev dktX7_give_10 : List UInt8 := dkwX7_give_10 ++ []
def dkwX7_give_9 : List UInt8 := [167, 0, 5, 21, 6, 54, 6, 132, 7, 1, 167, 255, 129, 42, 180, 0, 144, 21, 6, 2, 79, 132, 4, 1]
abbrev dktX7_give_9 : List UInt8 := dkwX7_give_9 ++ dktX7_give_10
def dkwX7_give_8 : List UInt8 := [162, 0, 7, 4, 167, 0, 4, 3, 54, 9, 21, 8, 153, 0, 13, 21, 9, 153, 0, 8, 21, 7]
abbrev dktX7_give_8 : List UInt8 := dkwX7_give_8 ++ dktX7_give_9
def dkwX7_give_7 : List UInt8 := [180, 0, 153, 21, 6, 46, 160, 0, 24, 42, 180, 0, 144, 21, 7, 46, 42, 180, 0, 144, 21, 6, 46]
abbrev dktX7_give_7 : List UInt8 := dkwX7_give_7 ++ dktX7_give_8
def dkwX7_give_6 : List UInt8 := [180, 0, 153, 21, 7, 46, 42, 180, 0, 153, 21, 6, 46, 163, 0, 37, 42, 180, 0, 153, 21, 7, 46, 42]
abbrev dktX7_give_6 : List UInt8 := dkwX7_give_6 ++ dktX7_give_7
def dkwX7_give_5 : List UInt8 := [21, 5, 182, 1, 79, 153, 0, 7, 4, 167, 0, 4, 3, 54, 8, 21, 6, 2, 159, 0, 54, 42]
abbrev dktX7_give_5 : List UInt8 := dkwX7_give_5 ++ dktX7_give_6
def dkwX7_give_4 : List UInt8 := [16, 50, 162, 0, 126, 42, 180, 0, 144, 21, 7, 46, 2, 159, 0, 23, 42, 42, 180, 0, 150, 21, 7, 46]
abbrev dktX7_give_4 : List UInt8 := dkwX7_give_4 ++ dktX7_give_5
def dkwX7_give_3 : List UInt8 := [21, 5, 4, 182, 1, 82, 42, 180, 0, 138, 21, 5, 46, 164, 0, 153, 2, 54, 6, 3, 54, 7, 21, 7]
abbrev dktX7_give_3 : List UInt8 := dkwX7_give_3 ++ dktX7_give_4
def dkwX7_give_2 : List UInt8 := [29, 92, 46, 28, 96, 79, 3, 54, 4, 42, 180, 0, 150, 29, 46, 54, 5, 21, 5, 2, 159, 0, 182, 42]
abbrev dktX7_give_2 : List UInt8 := dkwX7_give_2 ++ dktX7_give_3
def dkwX7_give_1 : List UInt8 := [154, 0, 7, 5, 167, 0, 4, 3, 181, 0, 189, 42, 180, 0, 189, 158, 0, 5, 3, 172, 42, 180, 0, 153]
abbrev dktX7_give_1 : List UInt8 := dkwX7_give_1 ++ dktX7_give_2
def dkwX7_give_0 : List UInt8 := [42, 27, 182, 1, 89, 62, 42, 29, 2, 160, 0, 7, 4, 167, 0, 19, 28, 4, 17, 39, 15, 184, 0, 192]
abbrev dktX7_give_0 : List UInt8 := dkwX7_give_0 ++ dktX7_give_1
theorem dksX7_give_0 : cX7_give.data.toList.drop 0 = dktX7_give_0 := by decide +kernel
theorem dksX7_give_1 : cX7_give.data.toList.drop 24 = dktX7_give_1 := dk_seg dksX7_give_0 24 rfl rfl
theorem dksX7_give_2 : cX7_give.data.toList.drop 48 = dktX7_give_2 := dk_seg dksX7_give_1 24 rfl rfl
theorem dksX7_give_3 : cX7_give.data.toList.drop 72 = dktX7_give_3 := dk_seg dksX7_give_2 24 rfl rfl
theorem dksX7_give_4 : cX7_give.data.toList.drop 96 = dktX7_give_4 := dk_seg dksX7_give_3 24 rfl rfl
theorem dksX7_give_5 : cX7_give.data.toList.drop 120 = dktX7_give_5 := dk_seg dksX7_give_4 24 rfl rfl
theorem dksX7_give_6 : cX7_give.data.toList.drop 142 = dktX7_give_6 := dk_seg dksX7_give_5 22 rfl rfl
theorem dksX7_give_7 : cX7_give.data.toList.drop 166 = dktX7_give_7 := dk_seg dksX7_give_6 24 rfl rfl
theorem dksX7_give_8 : cX7_give.data.toList.drop 189 = dktX7_give_8 := dk_seg dksX7_give_7 23 rfl rfl
theorem dksX7_give_9 : cX7_give.data.toList.drop 211 = dktX7_give_9 := dk_seg dksX7_give_8 22 rfl rfl
theorem dksX7_give_10 : cX7_give.data.toList.drop 235 = dktX7_give_10 := dk_seg dksX7_give_9 24 rfl rfl
theorem dX7_give_0 : decode cX7_give 0 = .ok (.aload_n 0, 1) := dk_42 (dk_at dksX7_give_0 0 rfl rfl)
theorem dX7_give_1 : decode cX7_give 1 = .ok (.iload_n 1, 1) := dk_27 (dk_at dksX7_give_0 1 rfl rfl)
theorem dX7_give_2 : decode cX7_give 2 = .ok (.invokevirtual 345, 3) := dk_182 1 89 (dk_at dksX7_give_0 2 rfl rfl)
theorem dX7_give_5 : decode cX7_give 5 = .ok (.istore_n 3, 1) := dk_62 (dk_at dksX7_give_0 5 rfl rfl)
theorem dX7_give_6 : decode cX7_give 6 = .ok (.aload_n 0, 1) := dk_42 (dk_at dksX7_give_0 6 rfl rfl)
theorem dX7_give_7 : decode cX7_give 7 = .ok (.iload_n 3, 1) := dk_29 (dk_at dksX7_give_0 7 rfl rfl)
theorem dX7_give_8 : decode cX7_give 8 = .ok (.iconst (-1), 1) := dk_2 (dk_at dksX7_give_0 8 rfl rfl)
theorem dX7_give_9 : decode cX7_give 9 = .ok (.if_icmp .ne 7, 3) := dk_160 0 7 (dk_at dksX7_give_0 9 rfl rfl)
theorem dX7_give_12 : decode cX7_give 12 = .ok (.iconst 1, 1) := dk_4 (dk_at dksX7_give_0 12 rfl rfl)
theorem dX7_give_13 : decode cX7_give 13 = .ok (.goto 19, 3) := dk_167 0 19 (dk_at dksX7_give_0 13 rfl rfl)
theorem dX7_give_16 : decode cX7_give 16 = .ok (.iload_n 2, 1) := dk_28 (dk_at dksX7_give_0 16 rfl rfl)
theorem dX7_give_17 : decode cX7_give 17 = .ok (.iconst 1, 1) := dk_4 (dk_at dksX7_give_0 17 rfl rfl)
theorem dX7_give_18 : decode cX7_give 18 = .ok (.sipush 9999, 3) := dk_17 39 15 (dk_at dksX7_give_0 18 rfl rfl)
theorem dX7_give_21 : decode cX7_give 21 = .ok (.invokestatic 192, 3) := dk_184 0 192 (dk_at dksX7_give_0 21 rfl rfl)
theorem dX7_give_24 : decode cX7_give 24 = .ok (.ifCond .ne 7, 3) := dk_154 0 7 (dk_at dksX7_give_1 0 rfl rfl)
theorem dX7_give_27 : decode cX7_give 27 = .ok (.iconst 2, 1) := dk_5 (dk_at dksX7_give_1 3 rfl rfl)
theorem dX7_give_28 : decode cX7_give 28 = .ok (.goto 4, 3) := dk_167 0 4 (dk_at dksX7_give_1 4 rfl rfl)
theorem dX7_give_31 : decode cX7_give 31 = .ok (.iconst 0, 1) := dk_3 (dk_at dksX7_give_1 7 rfl rfl)
theorem dX7_give_32 : decode cX7_give 32 = .ok (.putfield 189, 3) := dk_181 0 189 (dk_at dksX7_give_1 8 rfl rfl)
theorem dX7_give_35 : decode cX7_give 35 = .ok (.aload_n 0, 1) := dk_42 (dk_at dksX7_give_1 11 rfl rfl)
theorem dX7_give_36 : decode cX7_give 36 = .ok (.getfield 189, 3) := dk_180 0 189 (dk_at dksX7_give_1 12 rfl rfl)
theorem dX7_give_39 : decode cX7_give 39 = .ok (.ifCond .le 5, 3) := dk_158 0 5 (dk_at dksX7_give_1 15 rfl rfl)
theorem dX7_give_42 : decode cX7_give 42 = .ok (.iconst 0, 1) := dk_3 (dk_at dksX7_give_1 18 rfl rfl)
theorem dX7_give_43 : decode cX7_give 43 = .ok (.ireturn, 1) := dk_172 (dk_at dksX7_give_1 19 rfl rfl)
theorem dX7_give_44 : decode cX7_give 44 = .ok (.aload_n 0, 1) := dk_42 (dk_at dksX7_give_1 20 rfl rfl)
theorem dX7_give_45 : decode cX7_give 45 = .ok (.getfield 153, 3) := dk_180 0 153 (dk_at dksX7_give_1 21 rfl rfl)
theorem dX7_give_48 : decode cX7_give 48 = .ok (.iload_n 3, 1) := dk_29 (dk_at dksX7_give_2 0 rfl rfl)
theorem dX7_give_49 : decode cX7_give 49 = .ok (.dup2, 1) := dk_92 (dk_at dksX7_give_2 1 rfl rfl)
theorem dX7_give_50 : decode cX7_give 50 = .ok (.iaload, 1) := dk_46 (dk_at dksX7_give_2 2 rfl rfl)
theorem dX7_give_51 : decode cX7_give 51 = .ok (.iload_n 2, 1) := dk_28 (dk_at dksX7_give_2 3 rfl rfl)
theorem dX7_give_52 : decode cX7_give 52 = .ok (.iadd, 1) := dk_96 (dk_at dksX7_give_2 4 rfl rfl)
theorem dX7_give_53 : decode cX7_give 53 = .ok (.iastore, 1) := dk_79 (dk_at dksX7_give_2 5 rfl rfl)
theorem dX7_give_54 : decode cX7_give 54 = .ok (.iconst 0, 1) := dk_3 (dk_at dksX7_give_2 6 rfl rfl)
theorem dX7_give_55 : decode cX7_give 55 = .ok (.istore 4, 2) := dk_54 4 (dk_at dksX7_give_2 7 rfl rfl)
theorem dX7_give_57 : decode cX7_give 57 = .ok (.aload_n 0, 1) := dk_42 (dk_at dksX7_give_2 9 rfl rfl)
theorem dX7_give_58 : decode cX7_give 58 = .ok (.getfield 150, 3) := dk_180 0 150 (dk_at dksX7_give_2 10 rfl rfl)
theorem dX7_give_61 : decode cX7_give 61 = .ok (.iload_n 3, 1) := dk_29 (dk_at dksX7_give_2 13 rfl rfl)
theorem dX7_give_62 : decode cX7_give 62 = .ok (.iaload, 1) := dk_46 (dk_at dksX7_give_2 14 rfl rfl)
theorem dX7_give_63 : decode cX7_give 63 = .ok (.istore 5, 2) := dk_54 5 (dk_at dksX7_give_2 15 rfl rfl)
theorem dX7_give_65 : decode cX7_give 65 = .ok (.iload 5, 2) := dk_21 5 (dk_at dksX7_give_2 17 rfl rfl)
theorem dX7_give_67 : decode cX7_give 67 = .ok (.iconst (-1), 1) := dk_2 (dk_at dksX7_give_2 19 rfl rfl)
theorem dX7_give_68 : decode cX7_give 68 = .ok (.if_icmp .eq 182, 3) := dk_159 0 182 (dk_at dksX7_give_2 20 rfl rfl)
theorem dX7_give_71 : decode cX7_give 71 = .ok (.aload_n 0, 1) := dk_42 (dk_at dksX7_give_2 23 rfl rfl)
theorem dX7_give_72 : decode cX7_give 72 = .ok (.iload 5, 2) := dk_21 5 (dk_at dksX7_give_3 0 rfl rfl)
theorem dX7_give_74 : decode cX7_give 74 = .ok (.iconst 1, 1) := dk_4 (dk_at dksX7_give_3 2 rfl rfl)
theorem dX7_give_75 : decode cX7_give 75 = .ok (.invokevirtual 338, 3) := dk_182 1 82 (dk_at dksX7_give_3 3 rfl rfl)
theorem dX7_give_78 : decode cX7_give 78 = .ok (.aload_n 0, 1) := dk_42 (dk_at dksX7_give_3 6 rfl rfl)
theorem dX7_give_79 : decode cX7_give 79 = .ok (.getfield 138, 3) := dk_180 0 138 (dk_at dksX7_give_3 7 rfl rfl)
theorem dX7_give_82 : decode cX7_give 82 = .ok (.iload 5, 2) := dk_21 5 (dk_at dksX7_give_3 10 rfl rfl)
theorem dX7_give_84 : decode cX7_give 84 = .ok (.iaload, 1) := dk_46 (dk_at dksX7_give_3 12 rfl rfl)
theorem dX7_give_85 : decode cX7_give 85 = .ok (.if_icmp .le 153, 3) := dk_164 0 153 (dk_at dksX7_give_3 13 rfl rfl)
theorem dX7_give_88 : decode cX7_give 88 = .ok (.iconst (-1), 1) := dk_2 (dk_at dksX7_give_3 16 rfl rfl)
theorem dX7_give_89 : decode cX7_give 89 = .ok (.istore 6, 2) := dk_54 6 (dk_at dksX7_give_3 17 rfl rfl)
theorem dX7_give_91 : decode cX7_give 91 = .ok (.iconst 0, 1) := dk_3 (dk_at dksX7_give_3 19 rfl rfl)
theorem dX7_give_92 : decode cX7_give 92 = .ok (.istore 7, 2) := dk_54 7 (dk_at dksX7_give_3 20 rfl rfl)
theorem dX7_give_94 : decode cX7_give 94 = .ok (.iload 7, 2) := dk_21 7 (dk_at dksX7_give_3 22 rfl rfl)
theorem dX7_give_96 : decode cX7_give 96 = .ok (.bipush 50, 2) := dk_16 50 (dk_at dksX7_give_4 0 rfl rfl)
theorem dX7_give_98 : decode cX7_give 98 = .ok (.if_icmp .ge 126, 3) := dk_162 0 126 (dk_at dksX7_give_4 2 rfl rfl)
theorem dX7_give_101 : decode cX7_give 101 = .ok (.aload_n 0, 1) := dk_42 (dk_at dksX7_give_4 5 rfl rfl)
theorem dX7_give_102 : decode cX7_give 102 = .ok (.getfield 144, 3) := dk_180 0 144 (dk_at dksX7_give_4 6 rfl rfl)
theorem dX7_give_105 : decode cX7_give 105 = .ok (.iload 7, 2) := dk_21 7 (dk_at dksX7_give_4 9 rfl rfl)
theorem dX7_give_107 : decode cX7_give 107 = .ok (.iaload, 1) := dk_46 (dk_at dksX7_give_4 11 rfl rfl)
theorem dX7_give_108 : decode cX7_give 108 = .ok (.iconst (-1), 1) := dk_2 (dk_at dksX7_give_4 12 rfl rfl)
theorem dX7_give_109 : decode cX7_give 109 = .ok (.if_icmp .eq 23, 3) := dk_159 0 23 (dk_at dksX7_give_4 13 rfl rfl)
theorem dX7_give_112 : decode cX7_give 112 = .ok (.aload_n 0, 1) := dk_42 (dk_at dksX7_give_4 16 rfl rfl)
theorem dX7_give_113 : decode cX7_give 113 = .ok (.aload_n 0, 1) := dk_42 (dk_at dksX7_give_4 17 rfl rfl)
theorem dX7_give_114 : decode cX7_give 114 = .ok (.getfield 150, 3) := dk_180 0 150 (dk_at dksX7_give_4 18 rfl rfl)
theorem dX7_give_117 : decode cX7_give 117 = .ok (.iload 7, 2) := dk_21 7 (dk_at dksX7_give_4 21 rfl rfl)
theorem dX7_give_119 : decode cX7_give 119 = .ok (.iaload, 1) := dk_46 (dk_at dksX7_give_4 23 rfl rfl)
theorem dX7_give_120 : decode cX7_give 120 = .ok (.iload 5, 2) := dk_21 5 (dk_at dksX7_give_5 0 rfl rfl)
theorem dX7_give_122 : decode cX7_give 122 = .ok (.invokevirtual 335, 3) := dk_182 1 79 (dk_at dksX7_give_5 2 rfl rfl)
theorem dX7_give_125 : decode cX7_give 125 = .ok (.ifCond .eq 7, 3) := dk_153 0 7 (dk_at dksX7_give_5 5 rfl rfl)
theorem dX7_give_128 : decode cX7_give 128 = .ok (.iconst 1, 1) := dk_4 (dk_at dksX7_give_5 8 rfl rfl)
theorem dX7_give_129 : decode cX7_give 129 = .ok (.goto 4, 3) := dk_167 0 4 (dk_at dksX7_give_5 9 rfl rfl)
theorem dX7_give_132 : decode cX7_give 132 = .ok (.iconst 0, 1) := dk_3 (dk_at dksX7_give_5 12 rfl rfl)
theorem dX7_give_133 : decode cX7_give 133 = .ok (.istore 8, 2) := dk_54 8 (dk_at dksX7_give_5 13 rfl rfl)
theorem dX7_give_135 : decode cX7_give 135 = .ok (.iload 6, 2) := dk_21 6 (dk_at dksX7_give_5 15 rfl rfl)
theorem dX7_give_137 : decode cX7_give 137 = .ok (.iconst (-1), 1) := dk_2 (dk_at dksX7_give_5 17 rfl rfl)
theorem dX7_give_138 : decode cX7_give 138 = .ok (.if_icmp .eq 54, 3) := dk_159 0 54 (dk_at dksX7_give_5 18 rfl rfl)
theorem dX7_give_141 : decode cX7_give 141 = .ok (.aload_n 0, 1) := dk_42 (dk_at dksX7_give_5 21 rfl rfl)
theorem dX7_give_142 : decode cX7_give 142 = .ok (.getfield 153, 3) := dk_180 0 153 (dk_at dksX7_give_6 0 rfl rfl)
theorem dX7_give_145 : decode cX7_give 145 = .ok (.iload 7, 2) := dk_21 7 (dk_at dksX7_give_6 3 rfl rfl)
theorem dX7_give_147 : decode cX7_give 147 = .ok (.iaload, 1) := dk_46 (dk_at dksX7_give_6 5 rfl rfl)
theorem dX7_give_148 : decode cX7_give 148 = .ok (.aload_n 0, 1) := dk_42 (dk_at dksX7_give_6 6 rfl rfl)
theorem dX7_give_149 : decode cX7_give 149 = .ok (.getfield 153, 3) := dk_180 0 153 (dk_at dksX7_give_6 7 rfl rfl)
theorem dX7_give_152 : decode cX7_give 152 = .ok (.iload 6, 2) := dk_21 6 (dk_at dksX7_give_6 10 rfl rfl)
theorem dX7_give_154 : decode cX7_give 154 = .ok (.iaload, 1) := dk_46 (dk_at dksX7_give_6 12 rfl rfl)
theorem dX7_give_155 : decode cX7_give 155 = .ok (.if_icmp .gt 37, 3) := dk_163 0 37 (dk_at dksX7_give_6 13 rfl rfl)
theorem dX7_give_158 : decode cX7_give 158 = .ok (.aload_n 0, 1) := dk_42 (dk_at dksX7_give_6 16 rfl rfl)
theorem dX7_give_159 : decode cX7_give 159 = .ok (.getfield 153, 3) := dk_180 0 153 (dk_at dksX7_give_6 17 rfl rfl)
theorem dX7_give_162 : decode cX7_give 162 = .ok (.iload 7, 2) := dk_21 7 (dk_at dksX7_give_6 20 rfl rfl)
theorem dX7_give_164 : decode cX7_give 164 = .ok (.iaload, 1) := dk_46 (dk_at dksX7_give_6 22 rfl rfl)
theorem dX7_give_165 : decode cX7_give 165 = .ok (.aload_n 0, 1) := dk_42 (dk_at dksX7_give_6 23 rfl rfl)
theorem dX7_give_166 : decode cX7_give 166 = .ok (.getfield 153, 3) := dk_180 0 153 (dk_at dksX7_give_7 0 rfl rfl)
theorem dX7_give_169 : decode cX7_give 169 = .ok (.iload 6, 2) := dk_21 6 (dk_at dksX7_give_7 3 rfl rfl)
theorem dX7_give_171 : decode cX7_give 171 = .ok (.iaload, 1) := dk_46 (dk_at dksX7_give_7 5 rfl rfl)
theorem dX7_give_172 : decode cX7_give 172 = .ok (.if_icmp .ne 24, 3) := dk_160 0 24 (dk_at dksX7_give_7 6 rfl rfl)
theorem dX7_give_175 : decode cX7_give 175 = .ok (.aload_n 0, 1) := dk_42 (dk_at dksX7_give_7 9 rfl rfl)
theorem dX7_give_176 : decode cX7_give 176 = .ok (.getfield 144, 3) := dk_180 0 144 (dk_at dksX7_give_7 10 rfl rfl)
theorem dX7_give_179 : decode cX7_give 179 = .ok (.iload 7, 2) := dk_21 7 (dk_at dksX7_give_7 13 rfl rfl)
theorem dX7_give_181 : decode cX7_give 181 = .ok (.iaload, 1) := dk_46 (dk_at dksX7_give_7 15 rfl rfl)
theorem dX7_give_182 : decode cX7_give 182 = .ok (.aload_n 0, 1) := dk_42 (dk_at dksX7_give_7 16 rfl rfl)
theorem dX7_give_183 : decode cX7_give 183 = .ok (.getfield 144, 3) := dk_180 0 144 (dk_at dksX7_give_7 17 rfl rfl)
theorem dX7_give_186 : decode cX7_give 186 = .ok (.iload 6, 2) := dk_21 6 (dk_at dksX7_give_7 20 rfl rfl)
theorem dX7_give_188 : decode cX7_give 188 = .ok (.iaload, 1) := dk_46 (dk_at dksX7_give_7 22 rfl rfl)
theorem dX7_give_189 : decode cX7_give 189 = .ok (.if_icmp .ge 7, 3) := dk_162 0 7 (dk_at dksX7_give_8 0 rfl rfl)
theorem dX7_give_192 : decode cX7_give 192 = .ok (.iconst 1, 1) := dk_4 (dk_at dksX7_give_8 3 rfl rfl)
theorem dX7_give_193 : decode cX7_give 193 = .ok (.goto 4, 3) := dk_167 0 4 (dk_at dksX7_give_8 4 rfl rfl)
theorem dX7_give_196 : decode cX7_give 196 = .ok (.iconst 0, 1) := dk_3 (dk_at dksX7_give_8 7 rfl rfl)
theorem dX7_give_197 : decode cX7_give 197 = .ok (.istore 9, 2) := dk_54 9 (dk_at dksX7_give_8 8 rfl rfl)
theorem dX7_give_199 : decode cX7_give 199 = .ok (.iload 8, 2) := dk_21 8 (dk_at dksX7_give_8 10 rfl rfl)
theorem dX7_give_201 : decode cX7_give 201 = .ok (.ifCond .eq 13, 3) := dk_153 0 13 (dk_at dksX7_give_8 12 rfl rfl)
theorem dX7_give_204 : decode cX7_give 204 = .ok (.iload 9, 2) := dk_21 9 (dk_at dksX7_give_8 15 rfl rfl)
theorem dX7_give_206 : decode cX7_give 206 = .ok (.ifCond .eq 8, 3) := dk_153 0 8 (dk_at dksX7_give_8 17 rfl rfl)
theorem dX7_give_209 : decode cX7_give 209 = .ok (.iload 7, 2) := dk_21 7 (dk_at dksX7_give_8 20 rfl rfl)
theorem dX7_give_211 : decode cX7_give 211 = .ok (.goto 5, 3) := dk_167 0 5 (dk_at dksX7_give_9 0 rfl rfl)
theorem dX7_give_214 : decode cX7_give 214 = .ok (.iload 6, 2) := dk_21 6 (dk_at dksX7_give_9 3 rfl rfl)
theorem dX7_give_216 : decode cX7_give 216 = .ok (.istore 6, 2) := dk_54 6 (dk_at dksX7_give_9 5 rfl rfl)
theorem dX7_give_218 : decode cX7_give 218 = .ok (.iinc 7 1, 3) := dk_132 7 1 (dk_at dksX7_give_9 7 rfl rfl)
theorem dX7_give_221 : decode cX7_give 221 = .ok (.goto (-127), 3) := dk_167 255 129 (dk_at dksX7_give_9 10 rfl rfl)
theorem dX7_give_224 : decode cX7_give 224 = .ok (.aload_n 0, 1) := dk_42 (dk_at dksX7_give_9 13 rfl rfl)
theorem dX7_give_225 : decode cX7_give 225 = .ok (.getfield 144, 3) := dk_180 0 144 (dk_at dksX7_give_9 14 rfl rfl)
theorem dX7_give_228 : decode cX7_give 228 = .ok (.iload 6, 2) := dk_21 6 (dk_at dksX7_give_9 17 rfl rfl)
theorem dX7_give_230 : decode cX7_give 230 = .ok (.iconst (-1), 1) := dk_2 (dk_at dksX7_give_9 19 rfl rfl)
theorem dX7_give_231 : decode cX7_give 231 = .ok (.iastore, 1) := dk_79 (dk_at dksX7_give_9 20 rfl rfl)
theorem dX7_give_232 : decode cX7_give 232 = .ok (.iinc 4 1, 3) := dk_132 4 1 (dk_at dksX7_give_9 21 rfl rfl)
theorem dX7_give_235 : decode cX7_give 235 = .ok (.goto (-164), 3) := dk_167 255 92 (dk_at dksX7_give_10 0 rfl rfl)
theorem dX7_give_238 : decode cX7_give 238 = .ok (.aload_n 0, 1) := dk_42 (dk_at dksX7_give_10 3 rfl rfl)
theorem dX7_give_239 : decode cX7_give 239 = .ok (.getfield 132, 3) := dk_180 0 132 (dk_at dksX7_give_10 4 rfl rfl)
theorem dX7_give_242 : decode cX7_give 242 = .ok (.iload 5, 2) := dk_21 5 (dk_at dksX7_give_10 7 rfl rfl)
theorem dX7_give_244 : decode cX7_give 244 = .ok (.iaload, 1) := dk_46 (dk_at dksX7_give_10 9 rfl rfl)
theorem dX7_give_245 : decode cX7_give 245 = .ok (.istore 5, 2) := dk_54 5 (dk_at dksX7_give_10 10 rfl rfl)
theorem dX7_give_247 : decode cX7_give 247 = .ok (.goto (-182), 3) := dk_167 255 74 (dk_at dksX7_give_10 12 rfl rfl)
theorem dX7_give_250 : decode cX7_give 250 = .ok (.iload 4, 2) := dk_21 4 (dk_at dksX7_give_10 15 rfl rfl)
theorem dX7_give_252 : decode cX7_give 252 = .ok (.ireturn, 1) := dk_172 (dk_at dksX7_give_10 17 rfl rfl)
abbrev cX7_spotOf : ByteArray := prog_17_method_64_code
def yX7_spotOf : MethodName := ⟨RX7, "spotOf", "(I)I"⟩
def dkwX7_spotOf_1 : List UInt8 := [29, 167, 0, 4, 28, 61, 132, 3, 1, 167, 255, 227, 28, 172]
abbrev dktX7_spotOf_1 : List UInt8 := dkwX7_spotOf_1 ++ []
def dkwX7_spotOf_0 : List UInt8 := [2, 61, 3, 62, 29, 16, 50, 162, 0, 29, 27, 155, 0, 25, 42, 180, 0, 144, 29, 46, 27, 160, 0, 7]
abbrev dktX7_spotOf_0 : List UInt8 := dkwX7_spotOf_0 ++ dktX7_spotOf_1
theorem dksX7_spotOf_0 : cX7_spotOf.data.toList.drop 0 = dktX7_spotOf_0 := by decide +kernel
theorem dksX7_spotOf_1 : cX7_spotOf.data.toList.drop 24 = dktX7_spotOf_1 := dk_seg dksX7_spotOf_0 24 rfl rfl
theorem dX7_spotOf_0 : decode cX7_spotOf 0 = .ok (.iconst (-1), 1) := dk_2 (dk_at dksX7_spotOf_0 0 rfl rfl)
theorem dX7_spotOf_1 : decode cX7_spotOf 1 = .ok (.istore_n 2, 1) := dk_61 (dk_at dksX7_spotOf_0 1 rfl rfl)
theorem dX7_spotOf_2 : decode cX7_spotOf 2 = .ok (.iconst 0, 1) := dk_3 (dk_at dksX7_spotOf_0 2 rfl rfl)
theorem dX7_spotOf_3 : decode cX7_spotOf 3 = .ok (.istore_n 3, 1) := dk_62 (dk_at dksX7_spotOf_0 3 rfl rfl)
theorem dX7_spotOf_4 : decode cX7_spotOf 4 = .ok (.iload_n 3, 1) := dk_29 (dk_at dksX7_spotOf_0 4 rfl rfl)
theorem dX7_spotOf_5 : decode cX7_spotOf 5 = .ok (.bipush 50, 2) := dk_16 50 (dk_at dksX7_spotOf_0 5 rfl rfl)
theorem dX7_spotOf_7 : decode cX7_spotOf 7 = .ok (.if_icmp .ge 29, 3) := dk_162 0 29 (dk_at dksX7_spotOf_0 7 rfl rfl)
theorem dX7_spotOf_10 : decode cX7_spotOf 10 = .ok (.iload_n 1, 1) := dk_27 (dk_at dksX7_spotOf_0 10 rfl rfl)
theorem dX7_spotOf_11 : decode cX7_spotOf 11 = .ok (.ifCond .lt 25, 3) := dk_155 0 25 (dk_at dksX7_spotOf_0 11 rfl rfl)
theorem dX7_spotOf_14 : decode cX7_spotOf 14 = .ok (.aload_n 0, 1) := dk_42 (dk_at dksX7_spotOf_0 14 rfl rfl)
theorem dX7_spotOf_15 : decode cX7_spotOf 15 = .ok (.getfield 144, 3) := dk_180 0 144 (dk_at dksX7_spotOf_0 15 rfl rfl)
theorem dX7_spotOf_18 : decode cX7_spotOf 18 = .ok (.iload_n 3, 1) := dk_29 (dk_at dksX7_spotOf_0 18 rfl rfl)
theorem dX7_spotOf_19 : decode cX7_spotOf 19 = .ok (.iaload, 1) := dk_46 (dk_at dksX7_spotOf_0 19 rfl rfl)
theorem dX7_spotOf_20 : decode cX7_spotOf 20 = .ok (.iload_n 1, 1) := dk_27 (dk_at dksX7_spotOf_0 20 rfl rfl)
theorem dX7_spotOf_21 : decode cX7_spotOf 21 = .ok (.if_icmp .ne 7, 3) := dk_160 0 7 (dk_at dksX7_spotOf_0 21 rfl rfl)
theorem dX7_spotOf_24 : decode cX7_spotOf 24 = .ok (.iload_n 3, 1) := dk_29 (dk_at dksX7_spotOf_1 0 rfl rfl)
theorem dX7_spotOf_25 : decode cX7_spotOf 25 = .ok (.goto 4, 3) := dk_167 0 4 (dk_at dksX7_spotOf_1 1 rfl rfl)
theorem dX7_spotOf_28 : decode cX7_spotOf 28 = .ok (.iload_n 2, 1) := dk_28 (dk_at dksX7_spotOf_1 4 rfl rfl)
theorem dX7_spotOf_29 : decode cX7_spotOf 29 = .ok (.istore_n 2, 1) := dk_61 (dk_at dksX7_spotOf_1 5 rfl rfl)
theorem dX7_spotOf_30 : decode cX7_spotOf 30 = .ok (.iinc 3 1, 3) := dk_132 3 1 (dk_at dksX7_spotOf_1 6 rfl rfl)
theorem dX7_spotOf_33 : decode cX7_spotOf 33 = .ok (.goto (-29), 3) := dk_167 255 227 (dk_at dksX7_spotOf_1 9 rfl rfl)
theorem dX7_spotOf_36 : decode cX7_spotOf 36 = .ok (.iload_n 2, 1) := dk_28 (dk_at dksX7_spotOf_1 12 rfl rfl)
theorem dX7_spotOf_37 : decode cX7_spotOf 37 = .ok (.ireturn, 1) := dk_172 (dk_at dksX7_spotOf_1 13 rfl rfl)
abbrev cX7_process : ByteArray := prog_17_method_69_code
def yX7_process : MethodName := ⟨RX7, "process", "(II)I"⟩
def dkwX7_process_4 : List UInt8 := [180, 0, 150, 29, 46, 182, 1, 98, 172]
abbrev dktX7_process_4 : List UInt8 := dkwX7_process_4 ++ []
def dkwX7_process_3 : List UInt8 := [180, 0, 150, 29, 46, 167, 0, 27, 28, 5, 160, 0, 12, 42, 180, 0, 153, 29, 46, 167, 0, 13, 42, 42]
abbrev dktX7_process_3 : List UInt8 := dkwX7_process_3 ++ dktX7_process_4
def dkwX7_process_2 : List UInt8 := [154, 0, 17, 42, 180, 0, 50, 42, 180, 0, 147, 29, 46, 46, 167, 0, 41, 28, 4, 160, 0, 12, 42]
abbrev dktX7_process_2 : List UInt8 := dkwX7_process_2 ++ dktX7_process_3
def dkwX7_process_1 : List UInt8 := [154, 0, 7, 5, 167, 0, 4, 3, 181, 0, 189, 42, 180, 0, 189, 158, 0, 7, 3, 167, 0, 59, 28]
abbrev dktX7_process_1 : List UInt8 := dkwX7_process_1 ++ dktX7_process_2
def dkwX7_process_0 : List UInt8 := [42, 27, 182, 1, 89, 62, 42, 29, 2, 160, 0, 7, 4, 167, 0, 17, 28, 3, 6, 184, 0, 192]
abbrev dktX7_process_0 : List UInt8 := dkwX7_process_0 ++ dktX7_process_1
theorem dksX7_process_0 : cX7_process.data.toList.drop 0 = dktX7_process_0 := by decide +kernel
theorem dksX7_process_1 : cX7_process.data.toList.drop 22 = dktX7_process_1 := dk_seg dksX7_process_0 22 rfl rfl
theorem dksX7_process_2 : cX7_process.data.toList.drop 45 = dktX7_process_2 := dk_seg dksX7_process_1 23 rfl rfl
theorem dksX7_process_3 : cX7_process.data.toList.drop 68 = dktX7_process_3 := dk_seg dksX7_process_2 23 rfl rfl
theorem dksX7_process_4 : cX7_process.data.toList.drop 92 = dktX7_process_4 := dk_seg dksX7_process_3 24 rfl rfl
theorem dX7_process_0 : decode cX7_process 0 = .ok (.aload_n 0, 1) := dk_42 (dk_at dksX7_process_0 0 rfl rfl)
theorem dX7_process_1 : decode cX7_process 1 = .ok (.iload_n 1, 1) := dk_27 (dk_at dksX7_process_0 1 rfl rfl)
theorem dX7_process_2 : decode cX7_process 2 = .ok (.invokevirtual 345, 3) := dk_182 1 89 (dk_at dksX7_process_0 2 rfl rfl)
theorem dX7_process_5 : decode cX7_process 5 = .ok (.istore_n 3, 1) := dk_62 (dk_at dksX7_process_0 5 rfl rfl)
theorem dX7_process_6 : decode cX7_process 6 = .ok (.aload_n 0, 1) := dk_42 (dk_at dksX7_process_0 6 rfl rfl)
theorem dX7_process_7 : decode cX7_process 7 = .ok (.iload_n 3, 1) := dk_29 (dk_at dksX7_process_0 7 rfl rfl)
theorem dX7_process_8 : decode cX7_process 8 = .ok (.iconst (-1), 1) := dk_2 (dk_at dksX7_process_0 8 rfl rfl)
theorem dX7_process_9 : decode cX7_process 9 = .ok (.if_icmp .ne 7, 3) := dk_160 0 7 (dk_at dksX7_process_0 9 rfl rfl)
theorem dX7_process_12 : decode cX7_process 12 = .ok (.iconst 1, 1) := dk_4 (dk_at dksX7_process_0 12 rfl rfl)
theorem dX7_process_13 : decode cX7_process 13 = .ok (.goto 17, 3) := dk_167 0 17 (dk_at dksX7_process_0 13 rfl rfl)
theorem dX7_process_16 : decode cX7_process 16 = .ok (.iload_n 2, 1) := dk_28 (dk_at dksX7_process_0 16 rfl rfl)
theorem dX7_process_17 : decode cX7_process 17 = .ok (.iconst 0, 1) := dk_3 (dk_at dksX7_process_0 17 rfl rfl)
theorem dX7_process_18 : decode cX7_process 18 = .ok (.iconst 3, 1) := dk_6 (dk_at dksX7_process_0 18 rfl rfl)
theorem dX7_process_19 : decode cX7_process 19 = .ok (.invokestatic 192, 3) := dk_184 0 192 (dk_at dksX7_process_0 19 rfl rfl)
theorem dX7_process_22 : decode cX7_process 22 = .ok (.ifCond .ne 7, 3) := dk_154 0 7 (dk_at dksX7_process_1 0 rfl rfl)
theorem dX7_process_25 : decode cX7_process 25 = .ok (.iconst 2, 1) := dk_5 (dk_at dksX7_process_1 3 rfl rfl)
theorem dX7_process_26 : decode cX7_process 26 = .ok (.goto 4, 3) := dk_167 0 4 (dk_at dksX7_process_1 4 rfl rfl)
theorem dX7_process_29 : decode cX7_process 29 = .ok (.iconst 0, 1) := dk_3 (dk_at dksX7_process_1 7 rfl rfl)
theorem dX7_process_30 : decode cX7_process 30 = .ok (.putfield 189, 3) := dk_181 0 189 (dk_at dksX7_process_1 8 rfl rfl)
theorem dX7_process_33 : decode cX7_process 33 = .ok (.aload_n 0, 1) := dk_42 (dk_at dksX7_process_1 11 rfl rfl)
theorem dX7_process_34 : decode cX7_process 34 = .ok (.getfield 189, 3) := dk_180 0 189 (dk_at dksX7_process_1 12 rfl rfl)
theorem dX7_process_37 : decode cX7_process 37 = .ok (.ifCond .le 7, 3) := dk_158 0 7 (dk_at dksX7_process_1 15 rfl rfl)
theorem dX7_process_40 : decode cX7_process 40 = .ok (.iconst 0, 1) := dk_3 (dk_at dksX7_process_1 18 rfl rfl)
theorem dX7_process_41 : decode cX7_process 41 = .ok (.goto 59, 3) := dk_167 0 59 (dk_at dksX7_process_1 19 rfl rfl)
theorem dX7_process_44 : decode cX7_process 44 = .ok (.iload_n 2, 1) := dk_28 (dk_at dksX7_process_1 22 rfl rfl)
theorem dX7_process_45 : decode cX7_process 45 = .ok (.ifCond .ne 17, 3) := dk_154 0 17 (dk_at dksX7_process_2 0 rfl rfl)
theorem dX7_process_48 : decode cX7_process 48 = .ok (.aload_n 0, 1) := dk_42 (dk_at dksX7_process_2 3 rfl rfl)
theorem dX7_process_49 : decode cX7_process 49 = .ok (.getfield 50, 3) := dk_180 0 50 (dk_at dksX7_process_2 4 rfl rfl)
theorem dX7_process_52 : decode cX7_process 52 = .ok (.aload_n 0, 1) := dk_42 (dk_at dksX7_process_2 7 rfl rfl)
theorem dX7_process_53 : decode cX7_process 53 = .ok (.getfield 147, 3) := dk_180 0 147 (dk_at dksX7_process_2 8 rfl rfl)
theorem dX7_process_56 : decode cX7_process 56 = .ok (.iload_n 3, 1) := dk_29 (dk_at dksX7_process_2 11 rfl rfl)
theorem dX7_process_57 : decode cX7_process 57 = .ok (.iaload, 1) := dk_46 (dk_at dksX7_process_2 12 rfl rfl)
theorem dX7_process_58 : decode cX7_process 58 = .ok (.iaload, 1) := dk_46 (dk_at dksX7_process_2 13 rfl rfl)
theorem dX7_process_59 : decode cX7_process 59 = .ok (.goto 41, 3) := dk_167 0 41 (dk_at dksX7_process_2 14 rfl rfl)
theorem dX7_process_62 : decode cX7_process 62 = .ok (.iload_n 2, 1) := dk_28 (dk_at dksX7_process_2 17 rfl rfl)
theorem dX7_process_63 : decode cX7_process 63 = .ok (.iconst 1, 1) := dk_4 (dk_at dksX7_process_2 18 rfl rfl)
theorem dX7_process_64 : decode cX7_process 64 = .ok (.if_icmp .ne 12, 3) := dk_160 0 12 (dk_at dksX7_process_2 19 rfl rfl)
theorem dX7_process_67 : decode cX7_process 67 = .ok (.aload_n 0, 1) := dk_42 (dk_at dksX7_process_2 22 rfl rfl)
theorem dX7_process_68 : decode cX7_process 68 = .ok (.getfield 150, 3) := dk_180 0 150 (dk_at dksX7_process_3 0 rfl rfl)
theorem dX7_process_71 : decode cX7_process 71 = .ok (.iload_n 3, 1) := dk_29 (dk_at dksX7_process_3 3 rfl rfl)
theorem dX7_process_72 : decode cX7_process 72 = .ok (.iaload, 1) := dk_46 (dk_at dksX7_process_3 4 rfl rfl)
theorem dX7_process_73 : decode cX7_process 73 = .ok (.goto 27, 3) := dk_167 0 27 (dk_at dksX7_process_3 5 rfl rfl)
theorem dX7_process_76 : decode cX7_process 76 = .ok (.iload_n 2, 1) := dk_28 (dk_at dksX7_process_3 8 rfl rfl)
theorem dX7_process_77 : decode cX7_process 77 = .ok (.iconst 2, 1) := dk_5 (dk_at dksX7_process_3 9 rfl rfl)
theorem dX7_process_78 : decode cX7_process 78 = .ok (.if_icmp .ne 12, 3) := dk_160 0 12 (dk_at dksX7_process_3 10 rfl rfl)
theorem dX7_process_81 : decode cX7_process 81 = .ok (.aload_n 0, 1) := dk_42 (dk_at dksX7_process_3 13 rfl rfl)
theorem dX7_process_82 : decode cX7_process 82 = .ok (.getfield 153, 3) := dk_180 0 153 (dk_at dksX7_process_3 14 rfl rfl)
theorem dX7_process_85 : decode cX7_process 85 = .ok (.iload_n 3, 1) := dk_29 (dk_at dksX7_process_3 17 rfl rfl)
theorem dX7_process_86 : decode cX7_process 86 = .ok (.iaload, 1) := dk_46 (dk_at dksX7_process_3 18 rfl rfl)
theorem dX7_process_87 : decode cX7_process 87 = .ok (.goto 13, 3) := dk_167 0 13 (dk_at dksX7_process_3 19 rfl rfl)
theorem dX7_process_90 : decode cX7_process 90 = .ok (.aload_n 0, 1) := dk_42 (dk_at dksX7_process_3 22 rfl rfl)
theorem dX7_process_91 : decode cX7_process 91 = .ok (.aload_n 0, 1) := dk_42 (dk_at dksX7_process_3 23 rfl rfl)
theorem dX7_process_92 : decode cX7_process 92 = .ok (.getfield 150, 3) := dk_180 0 150 (dk_at dksX7_process_4 0 rfl rfl)
theorem dX7_process_95 : decode cX7_process 95 = .ok (.iload_n 3, 1) := dk_29 (dk_at dksX7_process_4 3 rfl rfl)
theorem dX7_process_96 : decode cX7_process 96 = .ok (.iaload, 1) := dk_46 (dk_at dksX7_process_4 4 rfl rfl)
theorem dX7_process_97 : decode cX7_process 97 = .ok (.invokevirtual 354, 3) := dk_182 1 98 (dk_at dksX7_process_4 5 rfl rfl)
theorem dX7_process_100 : decode cX7_process 100 = .ok (.ireturn, 1) := dk_172 (dk_at dksX7_process_4 8 rfl rfl)
abbrev cX7_time : ByteArray := prog_17_method_68_code
def yX7_time : MethodName := ⟨RX7, "time", "(I)I"⟩
def dkwX7_time_3 : List UInt8 := [132, 4, 255, 167, 255, 219, 29, 42, 27, 182, 1, 95, 108, 42, 27, 182, 1, 92, 108, 172]
abbrev dktX7_time_3 : List UInt8 := dkwX7_time_3 ++ []
def dkwX7_time_2 : List UInt8 := [42, 180, 0, 156, 21, 4, 46, 46, 104, 42, 42, 180, 0, 156, 21, 4, 4, 96, 46, 182, 1, 95, 108, 62]
abbrev dktX7_time_2 : List UInt8 := dkwX7_time_2 ++ dktX7_time_3
def dkwX7_time_1 : List UInt8 := [46, 62, 167, 255, 234, 17, 39, 16, 62, 28, 5, 100, 54, 4, 21, 4, 155, 0, 38, 29, 42, 180, 0, 141]
abbrev dktX7_time_1 : List UInt8 := dkwX7_time_1 ++ dktX7_time_2
def dkwX7_time_0 : List UInt8 := [3, 61, 27, 62, 29, 2, 159, 0, 23, 42, 180, 0, 156, 28, 29, 79, 132, 2, 1, 42, 180, 0, 132, 29]
abbrev dktX7_time_0 : List UInt8 := dkwX7_time_0 ++ dktX7_time_1
theorem dksX7_time_0 : cX7_time.data.toList.drop 0 = dktX7_time_0 := by decide +kernel
theorem dksX7_time_1 : cX7_time.data.toList.drop 24 = dktX7_time_1 := dk_seg dksX7_time_0 24 rfl rfl
theorem dksX7_time_2 : cX7_time.data.toList.drop 48 = dktX7_time_2 := dk_seg dksX7_time_1 24 rfl rfl
theorem dksX7_time_3 : cX7_time.data.toList.drop 72 = dktX7_time_3 := dk_seg dksX7_time_2 24 rfl rfl
theorem dX7_time_0 : decode cX7_time 0 = .ok (.iconst 0, 1) := dk_3 (dk_at dksX7_time_0 0 rfl rfl)
theorem dX7_time_1 : decode cX7_time 1 = .ok (.istore_n 2, 1) := dk_61 (dk_at dksX7_time_0 1 rfl rfl)
theorem dX7_time_2 : decode cX7_time 2 = .ok (.iload_n 1, 1) := dk_27 (dk_at dksX7_time_0 2 rfl rfl)
theorem dX7_time_3 : decode cX7_time 3 = .ok (.istore_n 3, 1) := dk_62 (dk_at dksX7_time_0 3 rfl rfl)
theorem dX7_time_4 : decode cX7_time 4 = .ok (.iload_n 3, 1) := dk_29 (dk_at dksX7_time_0 4 rfl rfl)
theorem dX7_time_5 : decode cX7_time 5 = .ok (.iconst (-1), 1) := dk_2 (dk_at dksX7_time_0 5 rfl rfl)
theorem dX7_time_6 : decode cX7_time 6 = .ok (.if_icmp .eq 23, 3) := dk_159 0 23 (dk_at dksX7_time_0 6 rfl rfl)
theorem dX7_time_9 : decode cX7_time 9 = .ok (.aload_n 0, 1) := dk_42 (dk_at dksX7_time_0 9 rfl rfl)
theorem dX7_time_10 : decode cX7_time 10 = .ok (.getfield 156, 3) := dk_180 0 156 (dk_at dksX7_time_0 10 rfl rfl)
theorem dX7_time_13 : decode cX7_time 13 = .ok (.iload_n 2, 1) := dk_28 (dk_at dksX7_time_0 13 rfl rfl)
theorem dX7_time_14 : decode cX7_time 14 = .ok (.iload_n 3, 1) := dk_29 (dk_at dksX7_time_0 14 rfl rfl)
theorem dX7_time_15 : decode cX7_time 15 = .ok (.iastore, 1) := dk_79 (dk_at dksX7_time_0 15 rfl rfl)
theorem dX7_time_16 : decode cX7_time 16 = .ok (.iinc 2 1, 3) := dk_132 2 1 (dk_at dksX7_time_0 16 rfl rfl)
theorem dX7_time_19 : decode cX7_time 19 = .ok (.aload_n 0, 1) := dk_42 (dk_at dksX7_time_0 19 rfl rfl)
theorem dX7_time_20 : decode cX7_time 20 = .ok (.getfield 132, 3) := dk_180 0 132 (dk_at dksX7_time_0 20 rfl rfl)
theorem dX7_time_23 : decode cX7_time 23 = .ok (.iload_n 3, 1) := dk_29 (dk_at dksX7_time_0 23 rfl rfl)
theorem dX7_time_24 : decode cX7_time 24 = .ok (.iaload, 1) := dk_46 (dk_at dksX7_time_1 0 rfl rfl)
theorem dX7_time_25 : decode cX7_time 25 = .ok (.istore_n 3, 1) := dk_62 (dk_at dksX7_time_1 1 rfl rfl)
theorem dX7_time_26 : decode cX7_time 26 = .ok (.goto (-22), 3) := dk_167 255 234 (dk_at dksX7_time_1 2 rfl rfl)
theorem dX7_time_29 : decode cX7_time 29 = .ok (.sipush 10000, 3) := dk_17 39 16 (dk_at dksX7_time_1 5 rfl rfl)
theorem dX7_time_32 : decode cX7_time 32 = .ok (.istore_n 3, 1) := dk_62 (dk_at dksX7_time_1 8 rfl rfl)
theorem dX7_time_33 : decode cX7_time 33 = .ok (.iload_n 2, 1) := dk_28 (dk_at dksX7_time_1 9 rfl rfl)
theorem dX7_time_34 : decode cX7_time 34 = .ok (.iconst 2, 1) := dk_5 (dk_at dksX7_time_1 10 rfl rfl)
theorem dX7_time_35 : decode cX7_time 35 = .ok (.isub, 1) := dk_100 (dk_at dksX7_time_1 11 rfl rfl)
theorem dX7_time_36 : decode cX7_time 36 = .ok (.istore 4, 2) := dk_54 4 (dk_at dksX7_time_1 12 rfl rfl)
theorem dX7_time_38 : decode cX7_time 38 = .ok (.iload 4, 2) := dk_21 4 (dk_at dksX7_time_1 14 rfl rfl)
theorem dX7_time_40 : decode cX7_time 40 = .ok (.ifCond .lt 38, 3) := dk_155 0 38 (dk_at dksX7_time_1 16 rfl rfl)
theorem dX7_time_43 : decode cX7_time 43 = .ok (.iload_n 3, 1) := dk_29 (dk_at dksX7_time_1 19 rfl rfl)
theorem dX7_time_44 : decode cX7_time 44 = .ok (.aload_n 0, 1) := dk_42 (dk_at dksX7_time_1 20 rfl rfl)
theorem dX7_time_45 : decode cX7_time 45 = .ok (.getfield 141, 3) := dk_180 0 141 (dk_at dksX7_time_1 21 rfl rfl)
theorem dX7_time_48 : decode cX7_time 48 = .ok (.aload_n 0, 1) := dk_42 (dk_at dksX7_time_2 0 rfl rfl)
theorem dX7_time_49 : decode cX7_time 49 = .ok (.getfield 156, 3) := dk_180 0 156 (dk_at dksX7_time_2 1 rfl rfl)
theorem dX7_time_52 : decode cX7_time 52 = .ok (.iload 4, 2) := dk_21 4 (dk_at dksX7_time_2 4 rfl rfl)
theorem dX7_time_54 : decode cX7_time 54 = .ok (.iaload, 1) := dk_46 (dk_at dksX7_time_2 6 rfl rfl)
theorem dX7_time_55 : decode cX7_time 55 = .ok (.iaload, 1) := dk_46 (dk_at dksX7_time_2 7 rfl rfl)
theorem dX7_time_56 : decode cX7_time 56 = .ok (.imul, 1) := dk_104 (dk_at dksX7_time_2 8 rfl rfl)
theorem dX7_time_57 : decode cX7_time 57 = .ok (.aload_n 0, 1) := dk_42 (dk_at dksX7_time_2 9 rfl rfl)
theorem dX7_time_58 : decode cX7_time 58 = .ok (.aload_n 0, 1) := dk_42 (dk_at dksX7_time_2 10 rfl rfl)
theorem dX7_time_59 : decode cX7_time 59 = .ok (.getfield 156, 3) := dk_180 0 156 (dk_at dksX7_time_2 11 rfl rfl)
theorem dX7_time_62 : decode cX7_time 62 = .ok (.iload 4, 2) := dk_21 4 (dk_at dksX7_time_2 14 rfl rfl)
theorem dX7_time_64 : decode cX7_time 64 = .ok (.iconst 1, 1) := dk_4 (dk_at dksX7_time_2 16 rfl rfl)
theorem dX7_time_65 : decode cX7_time 65 = .ok (.iadd, 1) := dk_96 (dk_at dksX7_time_2 17 rfl rfl)
theorem dX7_time_66 : decode cX7_time 66 = .ok (.iaload, 1) := dk_46 (dk_at dksX7_time_2 18 rfl rfl)
theorem dX7_time_67 : decode cX7_time 67 = .ok (.invokevirtual 351, 3) := dk_182 1 95 (dk_at dksX7_time_2 19 rfl rfl)
theorem dX7_time_70 : decode cX7_time 70 = .ok (.idiv, 1) := dk_108 (dk_at dksX7_time_2 22 rfl rfl)
theorem dX7_time_71 : decode cX7_time 71 = .ok (.istore_n 3, 1) := dk_62 (dk_at dksX7_time_2 23 rfl rfl)
theorem dX7_time_72 : decode cX7_time 72 = .ok (.iinc 4 (-1), 3) := dk_132 4 255 (dk_at dksX7_time_3 0 rfl rfl)
theorem dX7_time_75 : decode cX7_time 75 = .ok (.goto (-37), 3) := dk_167 255 219 (dk_at dksX7_time_3 3 rfl rfl)
theorem dX7_time_78 : decode cX7_time 78 = .ok (.iload_n 3, 1) := dk_29 (dk_at dksX7_time_3 6 rfl rfl)
theorem dX7_time_79 : decode cX7_time 79 = .ok (.aload_n 0, 1) := dk_42 (dk_at dksX7_time_3 7 rfl rfl)
theorem dX7_time_80 : decode cX7_time 80 = .ok (.iload_n 1, 1) := dk_27 (dk_at dksX7_time_3 8 rfl rfl)
theorem dX7_time_81 : decode cX7_time 81 = .ok (.invokevirtual 351, 3) := dk_182 1 95 (dk_at dksX7_time_3 9 rfl rfl)
theorem dX7_time_84 : decode cX7_time 84 = .ok (.idiv, 1) := dk_108 (dk_at dksX7_time_3 12 rfl rfl)
theorem dX7_time_85 : decode cX7_time 85 = .ok (.aload_n 0, 1) := dk_42 (dk_at dksX7_time_3 13 rfl rfl)
theorem dX7_time_86 : decode cX7_time 86 = .ok (.iload_n 1, 1) := dk_27 (dk_at dksX7_time_3 14 rfl rfl)
theorem dX7_time_87 : decode cX7_time 87 = .ok (.invokevirtual 348, 3) := dk_182 1 92 (dk_at dksX7_time_3 15 rfl rfl)
theorem dX7_time_90 : decode cX7_time 90 = .ok (.idiv, 1) := dk_108 (dk_at dksX7_time_3 18 rfl rfl)
theorem dX7_time_91 : decode cX7_time 91 = .ok (.ireturn, 1) := dk_172 (dk_at dksX7_time_3 19 rfl rfl)
abbrev cX7_sharesIn : ByteArray := prog_17_method_67_code
def yX7_sharesIn : MethodName := ⟨RX7, "sharesIn", "(I)I"⟩
def dkwX7_sharesIn_2 : List UInt8 := [29, 46, 167, 0, 4, 3, 96, 61, 132, 3, 1, 167, 255, 213, 28, 172]
abbrev dktX7_sharesIn_2 : List UInt8 := dkwX7_sharesIn_2 ++ []
def dkwX7_sharesIn_1 : List UInt8 := [28, 42, 180, 0, 132, 29, 46, 27, 160, 0, 21, 42, 29, 3, 182, 1, 82, 158, 0, 12, 42, 180, 0, 141]
abbrev dktX7_sharesIn_1 : List UInt8 := dkwX7_sharesIn_1 ++ dktX7_sharesIn_2
def dkwX7_sharesIn_0 : List UInt8 := [42, 27, 182, 1, 92, 158, 0, 7, 4, 167, 0, 4, 3, 61, 3, 62, 29, 42, 180, 0, 129, 162, 0, 41]
abbrev dktX7_sharesIn_0 : List UInt8 := dkwX7_sharesIn_0 ++ dktX7_sharesIn_1
theorem dksX7_sharesIn_0 : cX7_sharesIn.data.toList.drop 0 = dktX7_sharesIn_0 := by decide +kernel
theorem dksX7_sharesIn_1 : cX7_sharesIn.data.toList.drop 24 = dktX7_sharesIn_1 := dk_seg dksX7_sharesIn_0 24 rfl rfl
theorem dksX7_sharesIn_2 : cX7_sharesIn.data.toList.drop 48 = dktX7_sharesIn_2 := dk_seg dksX7_sharesIn_1 24 rfl rfl
theorem dX7_sharesIn_0 : decode cX7_sharesIn 0 = .ok (.aload_n 0, 1) := dk_42 (dk_at dksX7_sharesIn_0 0 rfl rfl)
theorem dX7_sharesIn_1 : decode cX7_sharesIn 1 = .ok (.iload_n 1, 1) := dk_27 (dk_at dksX7_sharesIn_0 1 rfl rfl)
theorem dX7_sharesIn_2 : decode cX7_sharesIn 2 = .ok (.invokevirtual 348, 3) := dk_182 1 92 (dk_at dksX7_sharesIn_0 2 rfl rfl)
theorem dX7_sharesIn_5 : decode cX7_sharesIn 5 = .ok (.ifCond .le 7, 3) := dk_158 0 7 (dk_at dksX7_sharesIn_0 5 rfl rfl)
theorem dX7_sharesIn_8 : decode cX7_sharesIn 8 = .ok (.iconst 1, 1) := dk_4 (dk_at dksX7_sharesIn_0 8 rfl rfl)
theorem dX7_sharesIn_9 : decode cX7_sharesIn 9 = .ok (.goto 4, 3) := dk_167 0 4 (dk_at dksX7_sharesIn_0 9 rfl rfl)
theorem dX7_sharesIn_12 : decode cX7_sharesIn 12 = .ok (.iconst 0, 1) := dk_3 (dk_at dksX7_sharesIn_0 12 rfl rfl)
theorem dX7_sharesIn_13 : decode cX7_sharesIn 13 = .ok (.istore_n 2, 1) := dk_61 (dk_at dksX7_sharesIn_0 13 rfl rfl)
theorem dX7_sharesIn_14 : decode cX7_sharesIn 14 = .ok (.iconst 0, 1) := dk_3 (dk_at dksX7_sharesIn_0 14 rfl rfl)
theorem dX7_sharesIn_15 : decode cX7_sharesIn 15 = .ok (.istore_n 3, 1) := dk_62 (dk_at dksX7_sharesIn_0 15 rfl rfl)
theorem dX7_sharesIn_16 : decode cX7_sharesIn 16 = .ok (.iload_n 3, 1) := dk_29 (dk_at dksX7_sharesIn_0 16 rfl rfl)
theorem dX7_sharesIn_17 : decode cX7_sharesIn 17 = .ok (.aload_n 0, 1) := dk_42 (dk_at dksX7_sharesIn_0 17 rfl rfl)
theorem dX7_sharesIn_18 : decode cX7_sharesIn 18 = .ok (.getfield 129, 3) := dk_180 0 129 (dk_at dksX7_sharesIn_0 18 rfl rfl)
theorem dX7_sharesIn_21 : decode cX7_sharesIn 21 = .ok (.if_icmp .ge 41, 3) := dk_162 0 41 (dk_at dksX7_sharesIn_0 21 rfl rfl)
theorem dX7_sharesIn_24 : decode cX7_sharesIn 24 = .ok (.iload_n 2, 1) := dk_28 (dk_at dksX7_sharesIn_1 0 rfl rfl)
theorem dX7_sharesIn_25 : decode cX7_sharesIn 25 = .ok (.aload_n 0, 1) := dk_42 (dk_at dksX7_sharesIn_1 1 rfl rfl)
theorem dX7_sharesIn_26 : decode cX7_sharesIn 26 = .ok (.getfield 132, 3) := dk_180 0 132 (dk_at dksX7_sharesIn_1 2 rfl rfl)
theorem dX7_sharesIn_29 : decode cX7_sharesIn 29 = .ok (.iload_n 3, 1) := dk_29 (dk_at dksX7_sharesIn_1 5 rfl rfl)
theorem dX7_sharesIn_30 : decode cX7_sharesIn 30 = .ok (.iaload, 1) := dk_46 (dk_at dksX7_sharesIn_1 6 rfl rfl)
theorem dX7_sharesIn_31 : decode cX7_sharesIn 31 = .ok (.iload_n 1, 1) := dk_27 (dk_at dksX7_sharesIn_1 7 rfl rfl)
theorem dX7_sharesIn_32 : decode cX7_sharesIn 32 = .ok (.if_icmp .ne 21, 3) := dk_160 0 21 (dk_at dksX7_sharesIn_1 8 rfl rfl)
theorem dX7_sharesIn_35 : decode cX7_sharesIn 35 = .ok (.aload_n 0, 1) := dk_42 (dk_at dksX7_sharesIn_1 11 rfl rfl)
theorem dX7_sharesIn_36 : decode cX7_sharesIn 36 = .ok (.iload_n 3, 1) := dk_29 (dk_at dksX7_sharesIn_1 12 rfl rfl)
theorem dX7_sharesIn_37 : decode cX7_sharesIn 37 = .ok (.iconst 0, 1) := dk_3 (dk_at dksX7_sharesIn_1 13 rfl rfl)
theorem dX7_sharesIn_38 : decode cX7_sharesIn 38 = .ok (.invokevirtual 338, 3) := dk_182 1 82 (dk_at dksX7_sharesIn_1 14 rfl rfl)
theorem dX7_sharesIn_41 : decode cX7_sharesIn 41 = .ok (.ifCond .le 12, 3) := dk_158 0 12 (dk_at dksX7_sharesIn_1 17 rfl rfl)
theorem dX7_sharesIn_44 : decode cX7_sharesIn 44 = .ok (.aload_n 0, 1) := dk_42 (dk_at dksX7_sharesIn_1 20 rfl rfl)
theorem dX7_sharesIn_45 : decode cX7_sharesIn 45 = .ok (.getfield 141, 3) := dk_180 0 141 (dk_at dksX7_sharesIn_1 21 rfl rfl)
theorem dX7_sharesIn_48 : decode cX7_sharesIn 48 = .ok (.iload_n 3, 1) := dk_29 (dk_at dksX7_sharesIn_2 0 rfl rfl)
theorem dX7_sharesIn_49 : decode cX7_sharesIn 49 = .ok (.iaload, 1) := dk_46 (dk_at dksX7_sharesIn_2 1 rfl rfl)
theorem dX7_sharesIn_50 : decode cX7_sharesIn 50 = .ok (.goto 4, 3) := dk_167 0 4 (dk_at dksX7_sharesIn_2 2 rfl rfl)
theorem dX7_sharesIn_53 : decode cX7_sharesIn 53 = .ok (.iconst 0, 1) := dk_3 (dk_at dksX7_sharesIn_2 5 rfl rfl)
theorem dX7_sharesIn_54 : decode cX7_sharesIn 54 = .ok (.iadd, 1) := dk_96 (dk_at dksX7_sharesIn_2 6 rfl rfl)
theorem dX7_sharesIn_55 : decode cX7_sharesIn 55 = .ok (.istore_n 2, 1) := dk_61 (dk_at dksX7_sharesIn_2 7 rfl rfl)
theorem dX7_sharesIn_56 : decode cX7_sharesIn 56 = .ok (.iinc 3 1, 3) := dk_132 3 1 (dk_at dksX7_sharesIn_2 8 rfl rfl)
theorem dX7_sharesIn_59 : decode cX7_sharesIn 59 = .ok (.goto (-43), 3) := dk_167 255 213 (dk_at dksX7_sharesIn_2 11 rfl rfl)
theorem dX7_sharesIn_62 : decode cX7_sharesIn 62 = .ok (.iload_n 2, 1) := dk_28 (dk_at dksX7_sharesIn_2 14 rfl rfl)
theorem dX7_sharesIn_63 : decode cX7_sharesIn 63 = .ok (.ireturn, 1) := dk_172 (dk_at dksX7_sharesIn_2 15 rfl rfl)
abbrev cX7_ownOf : ByteArray := prog_17_method_66_code
def yX7_ownOf : MethodName := ⟨RX7, "ownOf", "(I)I"⟩
def dkwX7_ownOf_1 : List UInt8 := [180, 0, 150, 29, 46, 27, 160, 0, 7, 4, 167, 0, 4, 3, 96, 61, 132, 3, 1, 167, 255, 219, 28, 172]
abbrev dktX7_ownOf_1 : List UInt8 := dkwX7_ownOf_1 ++ []
def dkwX7_ownOf_0 : List UInt8 := [3, 61, 3, 62, 29, 16, 50, 162, 0, 37, 28, 42, 180, 0, 144, 29, 46, 2, 159, 0, 17, 42]
abbrev dktX7_ownOf_0 : List UInt8 := dkwX7_ownOf_0 ++ dktX7_ownOf_1
theorem dksX7_ownOf_0 : cX7_ownOf.data.toList.drop 0 = dktX7_ownOf_0 := by decide +kernel
theorem dksX7_ownOf_1 : cX7_ownOf.data.toList.drop 22 = dktX7_ownOf_1 := dk_seg dksX7_ownOf_0 22 rfl rfl
theorem dX7_ownOf_0 : decode cX7_ownOf 0 = .ok (.iconst 0, 1) := dk_3 (dk_at dksX7_ownOf_0 0 rfl rfl)
theorem dX7_ownOf_1 : decode cX7_ownOf 1 = .ok (.istore_n 2, 1) := dk_61 (dk_at dksX7_ownOf_0 1 rfl rfl)
theorem dX7_ownOf_2 : decode cX7_ownOf 2 = .ok (.iconst 0, 1) := dk_3 (dk_at dksX7_ownOf_0 2 rfl rfl)
theorem dX7_ownOf_3 : decode cX7_ownOf 3 = .ok (.istore_n 3, 1) := dk_62 (dk_at dksX7_ownOf_0 3 rfl rfl)
theorem dX7_ownOf_4 : decode cX7_ownOf 4 = .ok (.iload_n 3, 1) := dk_29 (dk_at dksX7_ownOf_0 4 rfl rfl)
theorem dX7_ownOf_5 : decode cX7_ownOf 5 = .ok (.bipush 50, 2) := dk_16 50 (dk_at dksX7_ownOf_0 5 rfl rfl)
theorem dX7_ownOf_7 : decode cX7_ownOf 7 = .ok (.if_icmp .ge 37, 3) := dk_162 0 37 (dk_at dksX7_ownOf_0 7 rfl rfl)
theorem dX7_ownOf_10 : decode cX7_ownOf 10 = .ok (.iload_n 2, 1) := dk_28 (dk_at dksX7_ownOf_0 10 rfl rfl)
theorem dX7_ownOf_11 : decode cX7_ownOf 11 = .ok (.aload_n 0, 1) := dk_42 (dk_at dksX7_ownOf_0 11 rfl rfl)
theorem dX7_ownOf_12 : decode cX7_ownOf 12 = .ok (.getfield 144, 3) := dk_180 0 144 (dk_at dksX7_ownOf_0 12 rfl rfl)
theorem dX7_ownOf_15 : decode cX7_ownOf 15 = .ok (.iload_n 3, 1) := dk_29 (dk_at dksX7_ownOf_0 15 rfl rfl)
theorem dX7_ownOf_16 : decode cX7_ownOf 16 = .ok (.iaload, 1) := dk_46 (dk_at dksX7_ownOf_0 16 rfl rfl)
theorem dX7_ownOf_17 : decode cX7_ownOf 17 = .ok (.iconst (-1), 1) := dk_2 (dk_at dksX7_ownOf_0 17 rfl rfl)
theorem dX7_ownOf_18 : decode cX7_ownOf 18 = .ok (.if_icmp .eq 17, 3) := dk_159 0 17 (dk_at dksX7_ownOf_0 18 rfl rfl)
theorem dX7_ownOf_21 : decode cX7_ownOf 21 = .ok (.aload_n 0, 1) := dk_42 (dk_at dksX7_ownOf_0 21 rfl rfl)
theorem dX7_ownOf_22 : decode cX7_ownOf 22 = .ok (.getfield 150, 3) := dk_180 0 150 (dk_at dksX7_ownOf_1 0 rfl rfl)
theorem dX7_ownOf_25 : decode cX7_ownOf 25 = .ok (.iload_n 3, 1) := dk_29 (dk_at dksX7_ownOf_1 3 rfl rfl)
theorem dX7_ownOf_26 : decode cX7_ownOf 26 = .ok (.iaload, 1) := dk_46 (dk_at dksX7_ownOf_1 4 rfl rfl)
theorem dX7_ownOf_27 : decode cX7_ownOf 27 = .ok (.iload_n 1, 1) := dk_27 (dk_at dksX7_ownOf_1 5 rfl rfl)
theorem dX7_ownOf_28 : decode cX7_ownOf 28 = .ok (.if_icmp .ne 7, 3) := dk_160 0 7 (dk_at dksX7_ownOf_1 6 rfl rfl)
theorem dX7_ownOf_31 : decode cX7_ownOf 31 = .ok (.iconst 1, 1) := dk_4 (dk_at dksX7_ownOf_1 9 rfl rfl)
theorem dX7_ownOf_32 : decode cX7_ownOf 32 = .ok (.goto 4, 3) := dk_167 0 4 (dk_at dksX7_ownOf_1 10 rfl rfl)
theorem dX7_ownOf_35 : decode cX7_ownOf 35 = .ok (.iconst 0, 1) := dk_3 (dk_at dksX7_ownOf_1 13 rfl rfl)
theorem dX7_ownOf_36 : decode cX7_ownOf 36 = .ok (.iadd, 1) := dk_96 (dk_at dksX7_ownOf_1 14 rfl rfl)
theorem dX7_ownOf_37 : decode cX7_ownOf 37 = .ok (.istore_n 2, 1) := dk_61 (dk_at dksX7_ownOf_1 15 rfl rfl)
theorem dX7_ownOf_38 : decode cX7_ownOf 38 = .ok (.iinc 3 1, 3) := dk_132 3 1 (dk_at dksX7_ownOf_1 16 rfl rfl)
theorem dX7_ownOf_41 : decode cX7_ownOf 41 = .ok (.goto (-37), 3) := dk_167 255 219 (dk_at dksX7_ownOf_1 19 rfl rfl)
theorem dX7_ownOf_44 : decode cX7_ownOf 44 = .ok (.iload_n 2, 1) := dk_28 (dk_at dksX7_ownOf_1 22 rfl rfl)
theorem dX7_ownOf_45 : decode cX7_ownOf 45 = .ok (.ireturn, 1) := dk_172 (dk_at dksX7_ownOf_1 23 rfl rfl)
abbrev cX7_groupHas : ByteArray := prog_17_method_70_code
def yX7_groupHas : MethodName := ⟨RX7, "groupHas", "(II)I"⟩
def dkwX7_groupHas_2 : List UInt8 := [160, 0, 7, 4, 167, 0, 4, 3, 182, 1, 82, 172]
abbrev dktX7_groupHas_2 : List UInt8 := dkwX7_groupHas_2 ++ []
def dkwX7_groupHas_1 : List UInt8 := [167, 0, 4, 3, 181, 0, 189, 42, 180, 0, 189, 158, 0, 7, 3, 167, 0, 18, 42, 27, 28, 4]
abbrev dktX7_groupHas_1 : List UInt8 := dkwX7_groupHas_1 ++ dktX7_groupHas_2
def dkwX7_groupHas_0 : List UInt8 := [42, 42, 27, 182, 1, 76, 154, 0, 7, 4, 167, 0, 17, 28, 3, 4, 184, 0, 192, 154, 0, 7, 5]
abbrev dktX7_groupHas_0 : List UInt8 := dkwX7_groupHas_0 ++ dktX7_groupHas_1
theorem dksX7_groupHas_0 : cX7_groupHas.data.toList.drop 0 = dktX7_groupHas_0 := by decide +kernel
theorem dksX7_groupHas_1 : cX7_groupHas.data.toList.drop 23 = dktX7_groupHas_1 := dk_seg dksX7_groupHas_0 23 rfl rfl
theorem dksX7_groupHas_2 : cX7_groupHas.data.toList.drop 45 = dktX7_groupHas_2 := dk_seg dksX7_groupHas_1 22 rfl rfl
theorem dX7_groupHas_0 : decode cX7_groupHas 0 = .ok (.aload_n 0, 1) := dk_42 (dk_at dksX7_groupHas_0 0 rfl rfl)
theorem dX7_groupHas_1 : decode cX7_groupHas 1 = .ok (.aload_n 0, 1) := dk_42 (dk_at dksX7_groupHas_0 1 rfl rfl)
theorem dX7_groupHas_2 : decode cX7_groupHas 2 = .ok (.iload_n 1, 1) := dk_27 (dk_at dksX7_groupHas_0 2 rfl rfl)
theorem dX7_groupHas_3 : decode cX7_groupHas 3 = .ok (.invokevirtual 332, 3) := dk_182 1 76 (dk_at dksX7_groupHas_0 3 rfl rfl)
theorem dX7_groupHas_6 : decode cX7_groupHas 6 = .ok (.ifCond .ne 7, 3) := dk_154 0 7 (dk_at dksX7_groupHas_0 6 rfl rfl)
theorem dX7_groupHas_9 : decode cX7_groupHas 9 = .ok (.iconst 1, 1) := dk_4 (dk_at dksX7_groupHas_0 9 rfl rfl)
theorem dX7_groupHas_10 : decode cX7_groupHas 10 = .ok (.goto 17, 3) := dk_167 0 17 (dk_at dksX7_groupHas_0 10 rfl rfl)
theorem dX7_groupHas_13 : decode cX7_groupHas 13 = .ok (.iload_n 2, 1) := dk_28 (dk_at dksX7_groupHas_0 13 rfl rfl)
theorem dX7_groupHas_14 : decode cX7_groupHas 14 = .ok (.iconst 0, 1) := dk_3 (dk_at dksX7_groupHas_0 14 rfl rfl)
theorem dX7_groupHas_15 : decode cX7_groupHas 15 = .ok (.iconst 1, 1) := dk_4 (dk_at dksX7_groupHas_0 15 rfl rfl)
theorem dX7_groupHas_16 : decode cX7_groupHas 16 = .ok (.invokestatic 192, 3) := dk_184 0 192 (dk_at dksX7_groupHas_0 16 rfl rfl)
theorem dX7_groupHas_19 : decode cX7_groupHas 19 = .ok (.ifCond .ne 7, 3) := dk_154 0 7 (dk_at dksX7_groupHas_0 19 rfl rfl)
theorem dX7_groupHas_22 : decode cX7_groupHas 22 = .ok (.iconst 2, 1) := dk_5 (dk_at dksX7_groupHas_0 22 rfl rfl)
theorem dX7_groupHas_23 : decode cX7_groupHas 23 = .ok (.goto 4, 3) := dk_167 0 4 (dk_at dksX7_groupHas_1 0 rfl rfl)
theorem dX7_groupHas_26 : decode cX7_groupHas 26 = .ok (.iconst 0, 1) := dk_3 (dk_at dksX7_groupHas_1 3 rfl rfl)
theorem dX7_groupHas_27 : decode cX7_groupHas 27 = .ok (.putfield 189, 3) := dk_181 0 189 (dk_at dksX7_groupHas_1 4 rfl rfl)
theorem dX7_groupHas_30 : decode cX7_groupHas 30 = .ok (.aload_n 0, 1) := dk_42 (dk_at dksX7_groupHas_1 7 rfl rfl)
theorem dX7_groupHas_31 : decode cX7_groupHas 31 = .ok (.getfield 189, 3) := dk_180 0 189 (dk_at dksX7_groupHas_1 8 rfl rfl)
theorem dX7_groupHas_34 : decode cX7_groupHas 34 = .ok (.ifCond .le 7, 3) := dk_158 0 7 (dk_at dksX7_groupHas_1 11 rfl rfl)
theorem dX7_groupHas_37 : decode cX7_groupHas 37 = .ok (.iconst 0, 1) := dk_3 (dk_at dksX7_groupHas_1 14 rfl rfl)
theorem dX7_groupHas_38 : decode cX7_groupHas 38 = .ok (.goto 18, 3) := dk_167 0 18 (dk_at dksX7_groupHas_1 15 rfl rfl)
theorem dX7_groupHas_41 : decode cX7_groupHas 41 = .ok (.aload_n 0, 1) := dk_42 (dk_at dksX7_groupHas_1 18 rfl rfl)
theorem dX7_groupHas_42 : decode cX7_groupHas 42 = .ok (.iload_n 1, 1) := dk_27 (dk_at dksX7_groupHas_1 19 rfl rfl)
theorem dX7_groupHas_43 : decode cX7_groupHas 43 = .ok (.iload_n 2, 1) := dk_28 (dk_at dksX7_groupHas_1 20 rfl rfl)
theorem dX7_groupHas_44 : decode cX7_groupHas 44 = .ok (.iconst 1, 1) := dk_4 (dk_at dksX7_groupHas_1 21 rfl rfl)
theorem dX7_groupHas_45 : decode cX7_groupHas 45 = .ok (.if_icmp .ne 7, 3) := dk_160 0 7 (dk_at dksX7_groupHas_2 0 rfl rfl)
theorem dX7_groupHas_48 : decode cX7_groupHas 48 = .ok (.iconst 1, 1) := dk_4 (dk_at dksX7_groupHas_2 3 rfl rfl)
theorem dX7_groupHas_49 : decode cX7_groupHas 49 = .ok (.goto 4, 3) := dk_167 0 4 (dk_at dksX7_groupHas_2 4 rfl rfl)
theorem dX7_groupHas_52 : decode cX7_groupHas 52 = .ok (.iconst 0, 1) := dk_3 (dk_at dksX7_groupHas_2 7 rfl rfl)
theorem dX7_groupHas_53 : decode cX7_groupHas 53 = .ok (.invokevirtual 338, 3) := dk_182 1 82 (dk_at dksX7_groupHas_2 8 rfl rfl)
theorem dX7_groupHas_56 : decode cX7_groupHas 56 = .ok (.ireturn, 1) := dk_172 (dk_at dksX7_groupHas_2 11 rfl rfl)
abbrev cX7_filter : ByteArray := prog_17_method_71_code
def yX7_filter : MethodName := ⟨RX7, "filter", "(III)I"⟩
def dkwX7_filter_5 : List UInt8 := [21, 4, 92, 46, 4, 96, 79, 42, 180, 0, 93, 21, 4, 46, 172]
abbrev dktX7_filter_5 : List UInt8 := dkwX7_filter_5 ++ []
def dkwX7_filter_4 : List UInt8 := [42, 180, 0, 99, 16, 6, 21, 4, 104, 42, 180, 0, 93, 21, 4, 46, 96, 29, 79, 42, 180, 0, 93]
abbrev dktX7_filter_4 : List UInt8 := dkwX7_filter_4 ++ dktX7_filter_5
def dkwX7_filter_3 : List UInt8 := [158, 0, 5, 3, 172, 42, 180, 0, 96, 16, 6, 21, 4, 104, 42, 180, 0, 93, 21, 4, 46, 96, 28, 79]
abbrev dktX7_filter_3 : List UInt8 := dkwX7_filter_3 ++ dktX7_filter_4
def dkwX7_filter_2 : List UInt8 := [180, 0, 93, 21, 4, 46, 16, 6, 160, 0, 7, 6, 167, 0, 4, 3, 181, 0, 189, 42, 180, 0, 189]
abbrev dktX7_filter_2 : List UInt8 := dkwX7_filter_2 ++ dktX7_filter_3
def dkwX7_filter_1 : List UInt8 := [184, 0, 192, 153, 0, 14, 29, 3, 19, 1, 101, 184, 0, 192, 154, 0, 7, 5, 167, 0, 20, 42]
abbrev dktX7_filter_1 : List UInt8 := dkwX7_filter_1 ++ dktX7_filter_2
def dkwX7_filter_0 : List UInt8 := [42, 27, 182, 1, 24, 54, 4, 42, 21, 4, 2, 160, 0, 7, 4, 167, 0, 46, 28, 3, 19, 1, 101]
abbrev dktX7_filter_0 : List UInt8 := dkwX7_filter_0 ++ dktX7_filter_1
theorem dksX7_filter_0 : cX7_filter.data.toList.drop 0 = dktX7_filter_0 := by decide +kernel
theorem dksX7_filter_1 : cX7_filter.data.toList.drop 23 = dktX7_filter_1 := dk_seg dksX7_filter_0 23 rfl rfl
theorem dksX7_filter_2 : cX7_filter.data.toList.drop 45 = dktX7_filter_2 := dk_seg dksX7_filter_1 22 rfl rfl
theorem dksX7_filter_3 : cX7_filter.data.toList.drop 68 = dktX7_filter_3 := dk_seg dksX7_filter_2 23 rfl rfl
theorem dksX7_filter_4 : cX7_filter.data.toList.drop 92 = dktX7_filter_4 := dk_seg dksX7_filter_3 24 rfl rfl
theorem dksX7_filter_5 : cX7_filter.data.toList.drop 115 = dktX7_filter_5 := dk_seg dksX7_filter_4 23 rfl rfl
theorem dX7_filter_0 : decode cX7_filter 0 = .ok (.aload_n 0, 1) := dk_42 (dk_at dksX7_filter_0 0 rfl rfl)
theorem dX7_filter_1 : decode cX7_filter 1 = .ok (.iload_n 1, 1) := dk_27 (dk_at dksX7_filter_0 1 rfl rfl)
theorem dX7_filter_2 : decode cX7_filter 2 = .ok (.invokevirtual 280, 3) := dk_182 1 24 (dk_at dksX7_filter_0 2 rfl rfl)
theorem dX7_filter_5 : decode cX7_filter 5 = .ok (.istore 4, 2) := dk_54 4 (dk_at dksX7_filter_0 5 rfl rfl)
theorem dX7_filter_7 : decode cX7_filter 7 = .ok (.aload_n 0, 1) := dk_42 (dk_at dksX7_filter_0 7 rfl rfl)
theorem dX7_filter_8 : decode cX7_filter 8 = .ok (.iload 4, 2) := dk_21 4 (dk_at dksX7_filter_0 8 rfl rfl)
theorem dX7_filter_10 : decode cX7_filter 10 = .ok (.iconst (-1), 1) := dk_2 (dk_at dksX7_filter_0 10 rfl rfl)
theorem dX7_filter_11 : decode cX7_filter 11 = .ok (.if_icmp .ne 7, 3) := dk_160 0 7 (dk_at dksX7_filter_0 11 rfl rfl)
theorem dX7_filter_14 : decode cX7_filter 14 = .ok (.iconst 1, 1) := dk_4 (dk_at dksX7_filter_0 14 rfl rfl)
theorem dX7_filter_15 : decode cX7_filter 15 = .ok (.goto 46, 3) := dk_167 0 46 (dk_at dksX7_filter_0 15 rfl rfl)
theorem dX7_filter_18 : decode cX7_filter 18 = .ok (.iload_n 2, 1) := dk_28 (dk_at dksX7_filter_0 18 rfl rfl)
theorem dX7_filter_19 : decode cX7_filter 19 = .ok (.iconst 0, 1) := dk_3 (dk_at dksX7_filter_0 19 rfl rfl)
theorem dX7_filter_20 : decode cX7_filter 20 = .ok (.ldc_w 357, 3) := dk_19 1 101 (dk_at dksX7_filter_0 20 rfl rfl)
theorem dX7_filter_23 : decode cX7_filter 23 = .ok (.invokestatic 192, 3) := dk_184 0 192 (dk_at dksX7_filter_1 0 rfl rfl)
theorem dX7_filter_26 : decode cX7_filter 26 = .ok (.ifCond .eq 14, 3) := dk_153 0 14 (dk_at dksX7_filter_1 3 rfl rfl)
theorem dX7_filter_29 : decode cX7_filter 29 = .ok (.iload_n 3, 1) := dk_29 (dk_at dksX7_filter_1 6 rfl rfl)
theorem dX7_filter_30 : decode cX7_filter 30 = .ok (.iconst 0, 1) := dk_3 (dk_at dksX7_filter_1 7 rfl rfl)
theorem dX7_filter_31 : decode cX7_filter 31 = .ok (.ldc_w 357, 3) := dk_19 1 101 (dk_at dksX7_filter_1 8 rfl rfl)
theorem dX7_filter_34 : decode cX7_filter 34 = .ok (.invokestatic 192, 3) := dk_184 0 192 (dk_at dksX7_filter_1 11 rfl rfl)
theorem dX7_filter_37 : decode cX7_filter 37 = .ok (.ifCond .ne 7, 3) := dk_154 0 7 (dk_at dksX7_filter_1 14 rfl rfl)
theorem dX7_filter_40 : decode cX7_filter 40 = .ok (.iconst 2, 1) := dk_5 (dk_at dksX7_filter_1 17 rfl rfl)
theorem dX7_filter_41 : decode cX7_filter 41 = .ok (.goto 20, 3) := dk_167 0 20 (dk_at dksX7_filter_1 18 rfl rfl)
theorem dX7_filter_44 : decode cX7_filter 44 = .ok (.aload_n 0, 1) := dk_42 (dk_at dksX7_filter_1 21 rfl rfl)
theorem dX7_filter_45 : decode cX7_filter 45 = .ok (.getfield 93, 3) := dk_180 0 93 (dk_at dksX7_filter_2 0 rfl rfl)
theorem dX7_filter_48 : decode cX7_filter 48 = .ok (.iload 4, 2) := dk_21 4 (dk_at dksX7_filter_2 3 rfl rfl)
theorem dX7_filter_50 : decode cX7_filter 50 = .ok (.iaload, 1) := dk_46 (dk_at dksX7_filter_2 5 rfl rfl)
theorem dX7_filter_51 : decode cX7_filter 51 = .ok (.bipush 6, 2) := dk_16 6 (dk_at dksX7_filter_2 6 rfl rfl)
theorem dX7_filter_53 : decode cX7_filter 53 = .ok (.if_icmp .ne 7, 3) := dk_160 0 7 (dk_at dksX7_filter_2 8 rfl rfl)
theorem dX7_filter_56 : decode cX7_filter 56 = .ok (.iconst 3, 1) := dk_6 (dk_at dksX7_filter_2 11 rfl rfl)
theorem dX7_filter_57 : decode cX7_filter 57 = .ok (.goto 4, 3) := dk_167 0 4 (dk_at dksX7_filter_2 12 rfl rfl)
theorem dX7_filter_60 : decode cX7_filter 60 = .ok (.iconst 0, 1) := dk_3 (dk_at dksX7_filter_2 15 rfl rfl)
theorem dX7_filter_61 : decode cX7_filter 61 = .ok (.putfield 189, 3) := dk_181 0 189 (dk_at dksX7_filter_2 16 rfl rfl)
theorem dX7_filter_64 : decode cX7_filter 64 = .ok (.aload_n 0, 1) := dk_42 (dk_at dksX7_filter_2 19 rfl rfl)
theorem dX7_filter_65 : decode cX7_filter 65 = .ok (.getfield 189, 3) := dk_180 0 189 (dk_at dksX7_filter_2 20 rfl rfl)
theorem dX7_filter_68 : decode cX7_filter 68 = .ok (.ifCond .le 5, 3) := dk_158 0 5 (dk_at dksX7_filter_3 0 rfl rfl)
theorem dX7_filter_71 : decode cX7_filter 71 = .ok (.iconst 0, 1) := dk_3 (dk_at dksX7_filter_3 3 rfl rfl)
theorem dX7_filter_72 : decode cX7_filter 72 = .ok (.ireturn, 1) := dk_172 (dk_at dksX7_filter_3 4 rfl rfl)
theorem dX7_filter_73 : decode cX7_filter 73 = .ok (.aload_n 0, 1) := dk_42 (dk_at dksX7_filter_3 5 rfl rfl)
theorem dX7_filter_74 : decode cX7_filter 74 = .ok (.getfield 96, 3) := dk_180 0 96 (dk_at dksX7_filter_3 6 rfl rfl)
theorem dX7_filter_77 : decode cX7_filter 77 = .ok (.bipush 6, 2) := dk_16 6 (dk_at dksX7_filter_3 9 rfl rfl)
theorem dX7_filter_79 : decode cX7_filter 79 = .ok (.iload 4, 2) := dk_21 4 (dk_at dksX7_filter_3 11 rfl rfl)
theorem dX7_filter_81 : decode cX7_filter 81 = .ok (.imul, 1) := dk_104 (dk_at dksX7_filter_3 13 rfl rfl)
theorem dX7_filter_82 : decode cX7_filter 82 = .ok (.aload_n 0, 1) := dk_42 (dk_at dksX7_filter_3 14 rfl rfl)
theorem dX7_filter_83 : decode cX7_filter 83 = .ok (.getfield 93, 3) := dk_180 0 93 (dk_at dksX7_filter_3 15 rfl rfl)
theorem dX7_filter_86 : decode cX7_filter 86 = .ok (.iload 4, 2) := dk_21 4 (dk_at dksX7_filter_3 18 rfl rfl)
theorem dX7_filter_88 : decode cX7_filter 88 = .ok (.iaload, 1) := dk_46 (dk_at dksX7_filter_3 20 rfl rfl)
theorem dX7_filter_89 : decode cX7_filter 89 = .ok (.iadd, 1) := dk_96 (dk_at dksX7_filter_3 21 rfl rfl)
theorem dX7_filter_90 : decode cX7_filter 90 = .ok (.iload_n 2, 1) := dk_28 (dk_at dksX7_filter_3 22 rfl rfl)
theorem dX7_filter_91 : decode cX7_filter 91 = .ok (.iastore, 1) := dk_79 (dk_at dksX7_filter_3 23 rfl rfl)
theorem dX7_filter_92 : decode cX7_filter 92 = .ok (.aload_n 0, 1) := dk_42 (dk_at dksX7_filter_4 0 rfl rfl)
theorem dX7_filter_93 : decode cX7_filter 93 = .ok (.getfield 99, 3) := dk_180 0 99 (dk_at dksX7_filter_4 1 rfl rfl)
theorem dX7_filter_96 : decode cX7_filter 96 = .ok (.bipush 6, 2) := dk_16 6 (dk_at dksX7_filter_4 4 rfl rfl)
theorem dX7_filter_98 : decode cX7_filter 98 = .ok (.iload 4, 2) := dk_21 4 (dk_at dksX7_filter_4 6 rfl rfl)
theorem dX7_filter_100 : decode cX7_filter 100 = .ok (.imul, 1) := dk_104 (dk_at dksX7_filter_4 8 rfl rfl)
theorem dX7_filter_101 : decode cX7_filter 101 = .ok (.aload_n 0, 1) := dk_42 (dk_at dksX7_filter_4 9 rfl rfl)
theorem dX7_filter_102 : decode cX7_filter 102 = .ok (.getfield 93, 3) := dk_180 0 93 (dk_at dksX7_filter_4 10 rfl rfl)
theorem dX7_filter_105 : decode cX7_filter 105 = .ok (.iload 4, 2) := dk_21 4 (dk_at dksX7_filter_4 13 rfl rfl)
theorem dX7_filter_107 : decode cX7_filter 107 = .ok (.iaload, 1) := dk_46 (dk_at dksX7_filter_4 15 rfl rfl)
theorem dX7_filter_108 : decode cX7_filter 108 = .ok (.iadd, 1) := dk_96 (dk_at dksX7_filter_4 16 rfl rfl)
theorem dX7_filter_109 : decode cX7_filter 109 = .ok (.iload_n 3, 1) := dk_29 (dk_at dksX7_filter_4 17 rfl rfl)
theorem dX7_filter_110 : decode cX7_filter 110 = .ok (.iastore, 1) := dk_79 (dk_at dksX7_filter_4 18 rfl rfl)
theorem dX7_filter_111 : decode cX7_filter 111 = .ok (.aload_n 0, 1) := dk_42 (dk_at dksX7_filter_4 19 rfl rfl)
theorem dX7_filter_112 : decode cX7_filter 112 = .ok (.getfield 93, 3) := dk_180 0 93 (dk_at dksX7_filter_4 20 rfl rfl)
theorem dX7_filter_115 : decode cX7_filter 115 = .ok (.iload 4, 2) := dk_21 4 (dk_at dksX7_filter_5 0 rfl rfl)
theorem dX7_filter_117 : decode cX7_filter 117 = .ok (.dup2, 1) := dk_92 (dk_at dksX7_filter_5 2 rfl rfl)
theorem dX7_filter_118 : decode cX7_filter 118 = .ok (.iaload, 1) := dk_46 (dk_at dksX7_filter_5 3 rfl rfl)
theorem dX7_filter_119 : decode cX7_filter 119 = .ok (.iconst 1, 1) := dk_4 (dk_at dksX7_filter_5 4 rfl rfl)
theorem dX7_filter_120 : decode cX7_filter 120 = .ok (.iadd, 1) := dk_96 (dk_at dksX7_filter_5 5 rfl rfl)
theorem dX7_filter_121 : decode cX7_filter 121 = .ok (.iastore, 1) := dk_79 (dk_at dksX7_filter_5 6 rfl rfl)
theorem dX7_filter_122 : decode cX7_filter 122 = .ok (.aload_n 0, 1) := dk_42 (dk_at dksX7_filter_5 7 rfl rfl)
theorem dX7_filter_123 : decode cX7_filter 123 = .ok (.getfield 93, 3) := dk_180 0 93 (dk_at dksX7_filter_5 8 rfl rfl)
theorem dX7_filter_126 : decode cX7_filter 126 = .ok (.iload 4, 2) := dk_21 4 (dk_at dksX7_filter_5 11 rfl rfl)
theorem dX7_filter_128 : decode cX7_filter 128 = .ok (.iaload, 1) := dk_46 (dk_at dksX7_filter_5 13 rfl rfl)
theorem dX7_filter_129 : decode cX7_filter 129 = .ok (.ireturn, 1) := dk_172 (dk_at dksX7_filter_5 14 rfl rfl)
abbrev cX7_call : ByteArray := prog_17_method_72_code
def yX7_call : MethodName := ⟨RX7, "call", "(II)I"⟩
def dkwX7_call_6 : List UInt8 := [180, 0, 144, 29, 46, 79, 21, 5, 4, 160, 0, 7, 5, 167, 0, 5, 21, 4, 172]
abbrev dktX7_call_6 : List UInt8 := dkwX7_call_6 ++ []
def dkwX7_call_5 : List UInt8 := [132, 6, 1, 167, 255, 195, 42, 180, 0, 144, 29, 21, 5, 4, 160, 0, 7, 2, 167, 0, 9, 42]
abbrev dktX7_call_5 : List UInt8 := dkwX7_call_5 ++ dktX7_call_6
def dkwX7_call_4 : List UInt8 := [28, 122, 4, 126, 128, 54, 4, 21, 5, 42, 180, 0, 99, 21, 6, 46, 28, 122, 4, 126, 128, 54, 5]
abbrev dktX7_call_4 : List UInt8 := dkwX7_call_4 ++ dktX7_call_5
def dkwX7_call_3 : List UInt8 := [42, 180, 0, 93, 42, 180, 0, 147, 29, 46, 46, 96, 162, 0, 41, 21, 4, 42, 180, 0, 96, 21, 6, 46]
abbrev dktX7_call_3 : List UInt8 := dkwX7_call_3 ++ dktX7_call_4
def dkwX7_call_2 : List UInt8 := [54, 5, 16, 6, 42, 180, 0, 147, 29, 46, 104, 54, 6, 21, 6, 16, 6, 42, 180, 0, 147, 29, 46, 104]
abbrev dktX7_call_2 : List UInt8 := dkwX7_call_2 ++ dktX7_call_3
def dkwX7_call_1 : List UInt8 := [154, 0, 7, 5, 167, 0, 4, 3, 181, 0, 189, 42, 180, 0, 189, 158, 0, 5, 3, 172, 3, 54, 4, 3]
abbrev dktX7_call_1 : List UInt8 := dkwX7_call_1 ++ dktX7_call_2
def dkwX7_call_0 : List UInt8 := [42, 27, 182, 1, 89, 62, 42, 29, 2, 160, 0, 7, 4, 167, 0, 18, 28, 3, 16, 15, 184, 0, 192]
abbrev dktX7_call_0 : List UInt8 := dkwX7_call_0 ++ dktX7_call_1
theorem dksX7_call_0 : cX7_call.data.toList.drop 0 = dktX7_call_0 := by decide +kernel
theorem dksX7_call_1 : cX7_call.data.toList.drop 23 = dktX7_call_1 := dk_seg dksX7_call_0 23 rfl rfl
theorem dksX7_call_2 : cX7_call.data.toList.drop 47 = dktX7_call_2 := dk_seg dksX7_call_1 24 rfl rfl
theorem dksX7_call_3 : cX7_call.data.toList.drop 71 = dktX7_call_3 := dk_seg dksX7_call_2 24 rfl rfl
theorem dksX7_call_4 : cX7_call.data.toList.drop 95 = dktX7_call_4 := dk_seg dksX7_call_3 24 rfl rfl
theorem dksX7_call_5 : cX7_call.data.toList.drop 118 = dktX7_call_5 := dk_seg dksX7_call_4 23 rfl rfl
theorem dksX7_call_6 : cX7_call.data.toList.drop 140 = dktX7_call_6 := dk_seg dksX7_call_5 22 rfl rfl
theorem dX7_call_0 : decode cX7_call 0 = .ok (.aload_n 0, 1) := dk_42 (dk_at dksX7_call_0 0 rfl rfl)
theorem dX7_call_1 : decode cX7_call 1 = .ok (.iload_n 1, 1) := dk_27 (dk_at dksX7_call_0 1 rfl rfl)
theorem dX7_call_2 : decode cX7_call 2 = .ok (.invokevirtual 345, 3) := dk_182 1 89 (dk_at dksX7_call_0 2 rfl rfl)
theorem dX7_call_5 : decode cX7_call 5 = .ok (.istore_n 3, 1) := dk_62 (dk_at dksX7_call_0 5 rfl rfl)
theorem dX7_call_6 : decode cX7_call 6 = .ok (.aload_n 0, 1) := dk_42 (dk_at dksX7_call_0 6 rfl rfl)
theorem dX7_call_7 : decode cX7_call 7 = .ok (.iload_n 3, 1) := dk_29 (dk_at dksX7_call_0 7 rfl rfl)
theorem dX7_call_8 : decode cX7_call 8 = .ok (.iconst (-1), 1) := dk_2 (dk_at dksX7_call_0 8 rfl rfl)
theorem dX7_call_9 : decode cX7_call 9 = .ok (.if_icmp .ne 7, 3) := dk_160 0 7 (dk_at dksX7_call_0 9 rfl rfl)
theorem dX7_call_12 : decode cX7_call 12 = .ok (.iconst 1, 1) := dk_4 (dk_at dksX7_call_0 12 rfl rfl)
theorem dX7_call_13 : decode cX7_call 13 = .ok (.goto 18, 3) := dk_167 0 18 (dk_at dksX7_call_0 13 rfl rfl)
theorem dX7_call_16 : decode cX7_call 16 = .ok (.iload_n 2, 1) := dk_28 (dk_at dksX7_call_0 16 rfl rfl)
theorem dX7_call_17 : decode cX7_call 17 = .ok (.iconst 0, 1) := dk_3 (dk_at dksX7_call_0 17 rfl rfl)
theorem dX7_call_18 : decode cX7_call 18 = .ok (.bipush 15, 2) := dk_16 15 (dk_at dksX7_call_0 18 rfl rfl)
theorem dX7_call_20 : decode cX7_call 20 = .ok (.invokestatic 192, 3) := dk_184 0 192 (dk_at dksX7_call_0 20 rfl rfl)
theorem dX7_call_23 : decode cX7_call 23 = .ok (.ifCond .ne 7, 3) := dk_154 0 7 (dk_at dksX7_call_1 0 rfl rfl)
theorem dX7_call_26 : decode cX7_call 26 = .ok (.iconst 2, 1) := dk_5 (dk_at dksX7_call_1 3 rfl rfl)
theorem dX7_call_27 : decode cX7_call 27 = .ok (.goto 4, 3) := dk_167 0 4 (dk_at dksX7_call_1 4 rfl rfl)
theorem dX7_call_30 : decode cX7_call 30 = .ok (.iconst 0, 1) := dk_3 (dk_at dksX7_call_1 7 rfl rfl)
theorem dX7_call_31 : decode cX7_call 31 = .ok (.putfield 189, 3) := dk_181 0 189 (dk_at dksX7_call_1 8 rfl rfl)
theorem dX7_call_34 : decode cX7_call 34 = .ok (.aload_n 0, 1) := dk_42 (dk_at dksX7_call_1 11 rfl rfl)
theorem dX7_call_35 : decode cX7_call 35 = .ok (.getfield 189, 3) := dk_180 0 189 (dk_at dksX7_call_1 12 rfl rfl)
theorem dX7_call_38 : decode cX7_call 38 = .ok (.ifCond .le 5, 3) := dk_158 0 5 (dk_at dksX7_call_1 15 rfl rfl)
theorem dX7_call_41 : decode cX7_call 41 = .ok (.iconst 0, 1) := dk_3 (dk_at dksX7_call_1 18 rfl rfl)
theorem dX7_call_42 : decode cX7_call 42 = .ok (.ireturn, 1) := dk_172 (dk_at dksX7_call_1 19 rfl rfl)
theorem dX7_call_43 : decode cX7_call 43 = .ok (.iconst 0, 1) := dk_3 (dk_at dksX7_call_1 20 rfl rfl)
theorem dX7_call_44 : decode cX7_call 44 = .ok (.istore 4, 2) := dk_54 4 (dk_at dksX7_call_1 21 rfl rfl)
theorem dX7_call_46 : decode cX7_call 46 = .ok (.iconst 0, 1) := dk_3 (dk_at dksX7_call_1 23 rfl rfl)
theorem dX7_call_47 : decode cX7_call 47 = .ok (.istore 5, 2) := dk_54 5 (dk_at dksX7_call_2 0 rfl rfl)
theorem dX7_call_49 : decode cX7_call 49 = .ok (.bipush 6, 2) := dk_16 6 (dk_at dksX7_call_2 2 rfl rfl)
theorem dX7_call_51 : decode cX7_call 51 = .ok (.aload_n 0, 1) := dk_42 (dk_at dksX7_call_2 4 rfl rfl)
theorem dX7_call_52 : decode cX7_call 52 = .ok (.getfield 147, 3) := dk_180 0 147 (dk_at dksX7_call_2 5 rfl rfl)
theorem dX7_call_55 : decode cX7_call 55 = .ok (.iload_n 3, 1) := dk_29 (dk_at dksX7_call_2 8 rfl rfl)
theorem dX7_call_56 : decode cX7_call 56 = .ok (.iaload, 1) := dk_46 (dk_at dksX7_call_2 9 rfl rfl)
theorem dX7_call_57 : decode cX7_call 57 = .ok (.imul, 1) := dk_104 (dk_at dksX7_call_2 10 rfl rfl)
theorem dX7_call_58 : decode cX7_call 58 = .ok (.istore 6, 2) := dk_54 6 (dk_at dksX7_call_2 11 rfl rfl)
theorem dX7_call_60 : decode cX7_call 60 = .ok (.iload 6, 2) := dk_21 6 (dk_at dksX7_call_2 13 rfl rfl)
theorem dX7_call_62 : decode cX7_call 62 = .ok (.bipush 6, 2) := dk_16 6 (dk_at dksX7_call_2 15 rfl rfl)
theorem dX7_call_64 : decode cX7_call 64 = .ok (.aload_n 0, 1) := dk_42 (dk_at dksX7_call_2 17 rfl rfl)
theorem dX7_call_65 : decode cX7_call 65 = .ok (.getfield 147, 3) := dk_180 0 147 (dk_at dksX7_call_2 18 rfl rfl)
theorem dX7_call_68 : decode cX7_call 68 = .ok (.iload_n 3, 1) := dk_29 (dk_at dksX7_call_2 21 rfl rfl)
theorem dX7_call_69 : decode cX7_call 69 = .ok (.iaload, 1) := dk_46 (dk_at dksX7_call_2 22 rfl rfl)
theorem dX7_call_70 : decode cX7_call 70 = .ok (.imul, 1) := dk_104 (dk_at dksX7_call_2 23 rfl rfl)
theorem dX7_call_71 : decode cX7_call 71 = .ok (.aload_n 0, 1) := dk_42 (dk_at dksX7_call_3 0 rfl rfl)
theorem dX7_call_72 : decode cX7_call 72 = .ok (.getfield 93, 3) := dk_180 0 93 (dk_at dksX7_call_3 1 rfl rfl)
theorem dX7_call_75 : decode cX7_call 75 = .ok (.aload_n 0, 1) := dk_42 (dk_at dksX7_call_3 4 rfl rfl)
theorem dX7_call_76 : decode cX7_call 76 = .ok (.getfield 147, 3) := dk_180 0 147 (dk_at dksX7_call_3 5 rfl rfl)
theorem dX7_call_79 : decode cX7_call 79 = .ok (.iload_n 3, 1) := dk_29 (dk_at dksX7_call_3 8 rfl rfl)
theorem dX7_call_80 : decode cX7_call 80 = .ok (.iaload, 1) := dk_46 (dk_at dksX7_call_3 9 rfl rfl)
theorem dX7_call_81 : decode cX7_call 81 = .ok (.iaload, 1) := dk_46 (dk_at dksX7_call_3 10 rfl rfl)
theorem dX7_call_82 : decode cX7_call 82 = .ok (.iadd, 1) := dk_96 (dk_at dksX7_call_3 11 rfl rfl)
theorem dX7_call_83 : decode cX7_call 83 = .ok (.if_icmp .ge 41, 3) := dk_162 0 41 (dk_at dksX7_call_3 12 rfl rfl)
theorem dX7_call_86 : decode cX7_call 86 = .ok (.iload 4, 2) := dk_21 4 (dk_at dksX7_call_3 15 rfl rfl)
theorem dX7_call_88 : decode cX7_call 88 = .ok (.aload_n 0, 1) := dk_42 (dk_at dksX7_call_3 17 rfl rfl)
theorem dX7_call_89 : decode cX7_call 89 = .ok (.getfield 96, 3) := dk_180 0 96 (dk_at dksX7_call_3 18 rfl rfl)
theorem dX7_call_92 : decode cX7_call 92 = .ok (.iload 6, 2) := dk_21 6 (dk_at dksX7_call_3 21 rfl rfl)
theorem dX7_call_94 : decode cX7_call 94 = .ok (.iaload, 1) := dk_46 (dk_at dksX7_call_3 23 rfl rfl)
theorem dX7_call_95 : decode cX7_call 95 = .ok (.iload_n 2, 1) := dk_28 (dk_at dksX7_call_4 0 rfl rfl)
theorem dX7_call_96 : decode cX7_call 96 = .ok (.ishr, 1) := dk_122 (dk_at dksX7_call_4 1 rfl rfl)
theorem dX7_call_97 : decode cX7_call 97 = .ok (.iconst 1, 1) := dk_4 (dk_at dksX7_call_4 2 rfl rfl)
theorem dX7_call_98 : decode cX7_call 98 = .ok (.iand, 1) := dk_126 (dk_at dksX7_call_4 3 rfl rfl)
theorem dX7_call_99 : decode cX7_call 99 = .ok (.ior, 1) := dk_128 (dk_at dksX7_call_4 4 rfl rfl)
theorem dX7_call_100 : decode cX7_call 100 = .ok (.istore 4, 2) := dk_54 4 (dk_at dksX7_call_4 5 rfl rfl)
theorem dX7_call_102 : decode cX7_call 102 = .ok (.iload 5, 2) := dk_21 5 (dk_at dksX7_call_4 7 rfl rfl)
theorem dX7_call_104 : decode cX7_call 104 = .ok (.aload_n 0, 1) := dk_42 (dk_at dksX7_call_4 9 rfl rfl)
theorem dX7_call_105 : decode cX7_call 105 = .ok (.getfield 99, 3) := dk_180 0 99 (dk_at dksX7_call_4 10 rfl rfl)
theorem dX7_call_108 : decode cX7_call 108 = .ok (.iload 6, 2) := dk_21 6 (dk_at dksX7_call_4 13 rfl rfl)
theorem dX7_call_110 : decode cX7_call 110 = .ok (.iaload, 1) := dk_46 (dk_at dksX7_call_4 15 rfl rfl)
theorem dX7_call_111 : decode cX7_call 111 = .ok (.iload_n 2, 1) := dk_28 (dk_at dksX7_call_4 16 rfl rfl)
theorem dX7_call_112 : decode cX7_call 112 = .ok (.ishr, 1) := dk_122 (dk_at dksX7_call_4 17 rfl rfl)
theorem dX7_call_113 : decode cX7_call 113 = .ok (.iconst 1, 1) := dk_4 (dk_at dksX7_call_4 18 rfl rfl)
theorem dX7_call_114 : decode cX7_call 114 = .ok (.iand, 1) := dk_126 (dk_at dksX7_call_4 19 rfl rfl)
theorem dX7_call_115 : decode cX7_call 115 = .ok (.ior, 1) := dk_128 (dk_at dksX7_call_4 20 rfl rfl)
theorem dX7_call_116 : decode cX7_call 116 = .ok (.istore 5, 2) := dk_54 5 (dk_at dksX7_call_4 21 rfl rfl)
theorem dX7_call_118 : decode cX7_call 118 = .ok (.iinc 6 1, 3) := dk_132 6 1 (dk_at dksX7_call_5 0 rfl rfl)
theorem dX7_call_121 : decode cX7_call 121 = .ok (.goto (-61), 3) := dk_167 255 195 (dk_at dksX7_call_5 3 rfl rfl)
theorem dX7_call_124 : decode cX7_call 124 = .ok (.aload_n 0, 1) := dk_42 (dk_at dksX7_call_5 6 rfl rfl)
theorem dX7_call_125 : decode cX7_call 125 = .ok (.getfield 144, 3) := dk_180 0 144 (dk_at dksX7_call_5 7 rfl rfl)
theorem dX7_call_128 : decode cX7_call 128 = .ok (.iload_n 3, 1) := dk_29 (dk_at dksX7_call_5 10 rfl rfl)
theorem dX7_call_129 : decode cX7_call 129 = .ok (.iload 5, 2) := dk_21 5 (dk_at dksX7_call_5 11 rfl rfl)
theorem dX7_call_131 : decode cX7_call 131 = .ok (.iconst 1, 1) := dk_4 (dk_at dksX7_call_5 13 rfl rfl)
theorem dX7_call_132 : decode cX7_call 132 = .ok (.if_icmp .ne 7, 3) := dk_160 0 7 (dk_at dksX7_call_5 14 rfl rfl)
theorem dX7_call_135 : decode cX7_call 135 = .ok (.iconst (-1), 1) := dk_2 (dk_at dksX7_call_5 17 rfl rfl)
theorem dX7_call_136 : decode cX7_call 136 = .ok (.goto 9, 3) := dk_167 0 9 (dk_at dksX7_call_5 18 rfl rfl)
theorem dX7_call_139 : decode cX7_call 139 = .ok (.aload_n 0, 1) := dk_42 (dk_at dksX7_call_5 21 rfl rfl)
theorem dX7_call_140 : decode cX7_call 140 = .ok (.getfield 144, 3) := dk_180 0 144 (dk_at dksX7_call_6 0 rfl rfl)
theorem dX7_call_143 : decode cX7_call 143 = .ok (.iload_n 3, 1) := dk_29 (dk_at dksX7_call_6 3 rfl rfl)
theorem dX7_call_144 : decode cX7_call 144 = .ok (.iaload, 1) := dk_46 (dk_at dksX7_call_6 4 rfl rfl)
theorem dX7_call_145 : decode cX7_call 145 = .ok (.iastore, 1) := dk_79 (dk_at dksX7_call_6 5 rfl rfl)
theorem dX7_call_146 : decode cX7_call 146 = .ok (.iload 5, 2) := dk_21 5 (dk_at dksX7_call_6 6 rfl rfl)
theorem dX7_call_148 : decode cX7_call 148 = .ok (.iconst 1, 1) := dk_4 (dk_at dksX7_call_6 8 rfl rfl)
theorem dX7_call_149 : decode cX7_call 149 = .ok (.if_icmp .ne 7, 3) := dk_160 0 7 (dk_at dksX7_call_6 9 rfl rfl)
theorem dX7_call_152 : decode cX7_call 152 = .ok (.iconst 2, 1) := dk_5 (dk_at dksX7_call_6 12 rfl rfl)
theorem dX7_call_153 : decode cX7_call 153 = .ok (.goto 5, 3) := dk_167 0 5 (dk_at dksX7_call_6 13 rfl rfl)
theorem dX7_call_156 : decode cX7_call 156 = .ok (.iload 4, 2) := dk_21 4 (dk_at dksX7_call_6 16 rfl rfl)
theorem dX7_call_158 : decode cX7_call 158 = .ok (.ireturn, 1) := dk_172 (dk_at dksX7_call_6 18 rfl rfl)
abbrev cX7_connect : ByteArray := prog_17_method_73_code
def yX7_connect : MethodName := ⟨RX7, "connect", "(II)I"⟩
def dkwX7_connect_7 : List UInt8 := [21, 5, 172]
abbrev dktX7_connect_7 : List UInt8 := dkwX7_connect_7 ++ []
def dkwX7_connect_6 : List UInt8 := [16, 10, 160, 0, 9, 42, 6, 182, 0, 228, 172, 42, 180, 0, 102, 6, 29, 104, 28, 96, 21, 5, 79]
abbrev dktX7_connect_6 : List UInt8 := dkwX7_connect_6 ++ dktX7_connect_7
def dkwX7_connect_5 : List UInt8 := [16, 10, 162, 0, 20, 21, 4, 21, 5, 122, 4, 126, 4, 160, 0, 9, 132, 5, 1, 167, 255, 235, 21, 5]
abbrev dktX7_connect_5 : List UInt8 := dkwX7_connect_5 ++ dktX7_connect_6
def dkwX7_connect_4 : List UInt8 := [104, 28, 96, 46, 120, 167, 0, 4, 3, 128, 54, 4, 132, 5, 1, 167, 255, 213, 5, 54, 5, 21, 5]
abbrev dktX7_connect_4 : List UInt8 := dkwX7_connect_4 ++ dktX7_connect_5
def dkwX7_connect_3 : List UInt8 := [162, 0, 42, 21, 4, 42, 180, 0, 50, 21, 5, 46, 2, 159, 0, 19, 4, 42, 180, 0, 102, 6, 21, 5]
abbrev dktX7_connect_3 : List UInt8 := dkwX7_connect_3 ++ dktX7_connect_4
def dkwX7_connect_2 : List UInt8 := [3, 181, 0, 189, 42, 180, 0, 189, 158, 0, 5, 3, 172, 3, 54, 4, 3, 54, 5, 21, 5, 16, 8]
abbrev dktX7_connect_2 : List UInt8 := dkwX7_connect_2 ++ dktX7_connect_3
def dkwX7_connect_1 : List UInt8 := [154, 0, 7, 5, 167, 0, 21, 42, 180, 0, 102, 6, 29, 104, 28, 96, 46, 158, 0, 7, 6, 167, 0, 4]
abbrev dktX7_connect_1 : List UInt8 := dkwX7_connect_1 ++ dktX7_connect_2
def dkwX7_connect_0 : List UInt8 := [42, 27, 182, 1, 24, 62, 42, 29, 2, 160, 0, 7, 4, 167, 0, 34, 28, 3, 5, 184, 0, 192]
abbrev dktX7_connect_0 : List UInt8 := dkwX7_connect_0 ++ dktX7_connect_1
theorem dksX7_connect_0 : cX7_connect.data.toList.drop 0 = dktX7_connect_0 := by decide +kernel
theorem dksX7_connect_1 : cX7_connect.data.toList.drop 22 = dktX7_connect_1 := dk_seg dksX7_connect_0 22 rfl rfl
theorem dksX7_connect_2 : cX7_connect.data.toList.drop 46 = dktX7_connect_2 := dk_seg dksX7_connect_1 24 rfl rfl
theorem dksX7_connect_3 : cX7_connect.data.toList.drop 69 = dktX7_connect_3 := dk_seg dksX7_connect_2 23 rfl rfl
theorem dksX7_connect_4 : cX7_connect.data.toList.drop 93 = dktX7_connect_4 := dk_seg dksX7_connect_3 24 rfl rfl
theorem dksX7_connect_5 : cX7_connect.data.toList.drop 116 = dktX7_connect_5 := dk_seg dksX7_connect_4 23 rfl rfl
theorem dksX7_connect_6 : cX7_connect.data.toList.drop 140 = dktX7_connect_6 := dk_seg dksX7_connect_5 24 rfl rfl
theorem dksX7_connect_7 : cX7_connect.data.toList.drop 163 = dktX7_connect_7 := dk_seg dksX7_connect_6 23 rfl rfl
theorem dX7_connect_0 : decode cX7_connect 0 = .ok (.aload_n 0, 1) := dk_42 (dk_at dksX7_connect_0 0 rfl rfl)
theorem dX7_connect_1 : decode cX7_connect 1 = .ok (.iload_n 1, 1) := dk_27 (dk_at dksX7_connect_0 1 rfl rfl)
theorem dX7_connect_2 : decode cX7_connect 2 = .ok (.invokevirtual 280, 3) := dk_182 1 24 (dk_at dksX7_connect_0 2 rfl rfl)
theorem dX7_connect_5 : decode cX7_connect 5 = .ok (.istore_n 3, 1) := dk_62 (dk_at dksX7_connect_0 5 rfl rfl)
theorem dX7_connect_6 : decode cX7_connect 6 = .ok (.aload_n 0, 1) := dk_42 (dk_at dksX7_connect_0 6 rfl rfl)
theorem dX7_connect_7 : decode cX7_connect 7 = .ok (.iload_n 3, 1) := dk_29 (dk_at dksX7_connect_0 7 rfl rfl)
theorem dX7_connect_8 : decode cX7_connect 8 = .ok (.iconst (-1), 1) := dk_2 (dk_at dksX7_connect_0 8 rfl rfl)
theorem dX7_connect_9 : decode cX7_connect 9 = .ok (.if_icmp .ne 7, 3) := dk_160 0 7 (dk_at dksX7_connect_0 9 rfl rfl)
theorem dX7_connect_12 : decode cX7_connect 12 = .ok (.iconst 1, 1) := dk_4 (dk_at dksX7_connect_0 12 rfl rfl)
theorem dX7_connect_13 : decode cX7_connect 13 = .ok (.goto 34, 3) := dk_167 0 34 (dk_at dksX7_connect_0 13 rfl rfl)
theorem dX7_connect_16 : decode cX7_connect 16 = .ok (.iload_n 2, 1) := dk_28 (dk_at dksX7_connect_0 16 rfl rfl)
theorem dX7_connect_17 : decode cX7_connect 17 = .ok (.iconst 0, 1) := dk_3 (dk_at dksX7_connect_0 17 rfl rfl)
theorem dX7_connect_18 : decode cX7_connect 18 = .ok (.iconst 2, 1) := dk_5 (dk_at dksX7_connect_0 18 rfl rfl)
theorem dX7_connect_19 : decode cX7_connect 19 = .ok (.invokestatic 192, 3) := dk_184 0 192 (dk_at dksX7_connect_0 19 rfl rfl)
theorem dX7_connect_22 : decode cX7_connect 22 = .ok (.ifCond .ne 7, 3) := dk_154 0 7 (dk_at dksX7_connect_1 0 rfl rfl)
theorem dX7_connect_25 : decode cX7_connect 25 = .ok (.iconst 2, 1) := dk_5 (dk_at dksX7_connect_1 3 rfl rfl)
theorem dX7_connect_26 : decode cX7_connect 26 = .ok (.goto 21, 3) := dk_167 0 21 (dk_at dksX7_connect_1 4 rfl rfl)
theorem dX7_connect_29 : decode cX7_connect 29 = .ok (.aload_n 0, 1) := dk_42 (dk_at dksX7_connect_1 7 rfl rfl)
theorem dX7_connect_30 : decode cX7_connect 30 = .ok (.getfield 102, 3) := dk_180 0 102 (dk_at dksX7_connect_1 8 rfl rfl)
theorem dX7_connect_33 : decode cX7_connect 33 = .ok (.iconst 3, 1) := dk_6 (dk_at dksX7_connect_1 11 rfl rfl)
theorem dX7_connect_34 : decode cX7_connect 34 = .ok (.iload_n 3, 1) := dk_29 (dk_at dksX7_connect_1 12 rfl rfl)
theorem dX7_connect_35 : decode cX7_connect 35 = .ok (.imul, 1) := dk_104 (dk_at dksX7_connect_1 13 rfl rfl)
theorem dX7_connect_36 : decode cX7_connect 36 = .ok (.iload_n 2, 1) := dk_28 (dk_at dksX7_connect_1 14 rfl rfl)
theorem dX7_connect_37 : decode cX7_connect 37 = .ok (.iadd, 1) := dk_96 (dk_at dksX7_connect_1 15 rfl rfl)
theorem dX7_connect_38 : decode cX7_connect 38 = .ok (.iaload, 1) := dk_46 (dk_at dksX7_connect_1 16 rfl rfl)
theorem dX7_connect_39 : decode cX7_connect 39 = .ok (.ifCond .le 7, 3) := dk_158 0 7 (dk_at dksX7_connect_1 17 rfl rfl)
theorem dX7_connect_42 : decode cX7_connect 42 = .ok (.iconst 3, 1) := dk_6 (dk_at dksX7_connect_1 20 rfl rfl)
theorem dX7_connect_43 : decode cX7_connect 43 = .ok (.goto 4, 3) := dk_167 0 4 (dk_at dksX7_connect_1 21 rfl rfl)
theorem dX7_connect_46 : decode cX7_connect 46 = .ok (.iconst 0, 1) := dk_3 (dk_at dksX7_connect_2 0 rfl rfl)
theorem dX7_connect_47 : decode cX7_connect 47 = .ok (.putfield 189, 3) := dk_181 0 189 (dk_at dksX7_connect_2 1 rfl rfl)
theorem dX7_connect_50 : decode cX7_connect 50 = .ok (.aload_n 0, 1) := dk_42 (dk_at dksX7_connect_2 4 rfl rfl)
theorem dX7_connect_51 : decode cX7_connect 51 = .ok (.getfield 189, 3) := dk_180 0 189 (dk_at dksX7_connect_2 5 rfl rfl)
theorem dX7_connect_54 : decode cX7_connect 54 = .ok (.ifCond .le 5, 3) := dk_158 0 5 (dk_at dksX7_connect_2 8 rfl rfl)
theorem dX7_connect_57 : decode cX7_connect 57 = .ok (.iconst 0, 1) := dk_3 (dk_at dksX7_connect_2 11 rfl rfl)
theorem dX7_connect_58 : decode cX7_connect 58 = .ok (.ireturn, 1) := dk_172 (dk_at dksX7_connect_2 12 rfl rfl)
theorem dX7_connect_59 : decode cX7_connect 59 = .ok (.iconst 0, 1) := dk_3 (dk_at dksX7_connect_2 13 rfl rfl)
theorem dX7_connect_60 : decode cX7_connect 60 = .ok (.istore 4, 2) := dk_54 4 (dk_at dksX7_connect_2 14 rfl rfl)
theorem dX7_connect_62 : decode cX7_connect 62 = .ok (.iconst 0, 1) := dk_3 (dk_at dksX7_connect_2 16 rfl rfl)
theorem dX7_connect_63 : decode cX7_connect 63 = .ok (.istore 5, 2) := dk_54 5 (dk_at dksX7_connect_2 17 rfl rfl)
theorem dX7_connect_65 : decode cX7_connect 65 = .ok (.iload 5, 2) := dk_21 5 (dk_at dksX7_connect_2 19 rfl rfl)
theorem dX7_connect_67 : decode cX7_connect 67 = .ok (.bipush 8, 2) := dk_16 8 (dk_at dksX7_connect_2 21 rfl rfl)
theorem dX7_connect_69 : decode cX7_connect 69 = .ok (.if_icmp .ge 42, 3) := dk_162 0 42 (dk_at dksX7_connect_3 0 rfl rfl)
theorem dX7_connect_72 : decode cX7_connect 72 = .ok (.iload 4, 2) := dk_21 4 (dk_at dksX7_connect_3 3 rfl rfl)
theorem dX7_connect_74 : decode cX7_connect 74 = .ok (.aload_n 0, 1) := dk_42 (dk_at dksX7_connect_3 5 rfl rfl)
theorem dX7_connect_75 : decode cX7_connect 75 = .ok (.getfield 50, 3) := dk_180 0 50 (dk_at dksX7_connect_3 6 rfl rfl)
theorem dX7_connect_78 : decode cX7_connect 78 = .ok (.iload 5, 2) := dk_21 5 (dk_at dksX7_connect_3 9 rfl rfl)
theorem dX7_connect_80 : decode cX7_connect 80 = .ok (.iaload, 1) := dk_46 (dk_at dksX7_connect_3 11 rfl rfl)
theorem dX7_connect_81 : decode cX7_connect 81 = .ok (.iconst (-1), 1) := dk_2 (dk_at dksX7_connect_3 12 rfl rfl)
theorem dX7_connect_82 : decode cX7_connect 82 = .ok (.if_icmp .eq 19, 3) := dk_159 0 19 (dk_at dksX7_connect_3 13 rfl rfl)
theorem dX7_connect_85 : decode cX7_connect 85 = .ok (.iconst 1, 1) := dk_4 (dk_at dksX7_connect_3 16 rfl rfl)
theorem dX7_connect_86 : decode cX7_connect 86 = .ok (.aload_n 0, 1) := dk_42 (dk_at dksX7_connect_3 17 rfl rfl)
theorem dX7_connect_87 : decode cX7_connect 87 = .ok (.getfield 102, 3) := dk_180 0 102 (dk_at dksX7_connect_3 18 rfl rfl)
theorem dX7_connect_90 : decode cX7_connect 90 = .ok (.iconst 3, 1) := dk_6 (dk_at dksX7_connect_3 21 rfl rfl)
theorem dX7_connect_91 : decode cX7_connect 91 = .ok (.iload 5, 2) := dk_21 5 (dk_at dksX7_connect_3 22 rfl rfl)
theorem dX7_connect_93 : decode cX7_connect 93 = .ok (.imul, 1) := dk_104 (dk_at dksX7_connect_4 0 rfl rfl)
theorem dX7_connect_94 : decode cX7_connect 94 = .ok (.iload_n 2, 1) := dk_28 (dk_at dksX7_connect_4 1 rfl rfl)
theorem dX7_connect_95 : decode cX7_connect 95 = .ok (.iadd, 1) := dk_96 (dk_at dksX7_connect_4 2 rfl rfl)
theorem dX7_connect_96 : decode cX7_connect 96 = .ok (.iaload, 1) := dk_46 (dk_at dksX7_connect_4 3 rfl rfl)
theorem dX7_connect_97 : decode cX7_connect 97 = .ok (.ishl, 1) := dk_120 (dk_at dksX7_connect_4 4 rfl rfl)
theorem dX7_connect_98 : decode cX7_connect 98 = .ok (.goto 4, 3) := dk_167 0 4 (dk_at dksX7_connect_4 5 rfl rfl)
theorem dX7_connect_101 : decode cX7_connect 101 = .ok (.iconst 0, 1) := dk_3 (dk_at dksX7_connect_4 8 rfl rfl)
theorem dX7_connect_102 : decode cX7_connect 102 = .ok (.ior, 1) := dk_128 (dk_at dksX7_connect_4 9 rfl rfl)
theorem dX7_connect_103 : decode cX7_connect 103 = .ok (.istore 4, 2) := dk_54 4 (dk_at dksX7_connect_4 10 rfl rfl)
theorem dX7_connect_105 : decode cX7_connect 105 = .ok (.iinc 5 1, 3) := dk_132 5 1 (dk_at dksX7_connect_4 12 rfl rfl)
theorem dX7_connect_108 : decode cX7_connect 108 = .ok (.goto (-43), 3) := dk_167 255 213 (dk_at dksX7_connect_4 15 rfl rfl)
theorem dX7_connect_111 : decode cX7_connect 111 = .ok (.iconst 2, 1) := dk_5 (dk_at dksX7_connect_4 18 rfl rfl)
theorem dX7_connect_112 : decode cX7_connect 112 = .ok (.istore 5, 2) := dk_54 5 (dk_at dksX7_connect_4 19 rfl rfl)
theorem dX7_connect_114 : decode cX7_connect 114 = .ok (.iload 5, 2) := dk_21 5 (dk_at dksX7_connect_4 21 rfl rfl)
theorem dX7_connect_116 : decode cX7_connect 116 = .ok (.bipush 10, 2) := dk_16 10 (dk_at dksX7_connect_5 0 rfl rfl)
theorem dX7_connect_118 : decode cX7_connect 118 = .ok (.if_icmp .ge 20, 3) := dk_162 0 20 (dk_at dksX7_connect_5 2 rfl rfl)
theorem dX7_connect_121 : decode cX7_connect 121 = .ok (.iload 4, 2) := dk_21 4 (dk_at dksX7_connect_5 5 rfl rfl)
theorem dX7_connect_123 : decode cX7_connect 123 = .ok (.iload 5, 2) := dk_21 5 (dk_at dksX7_connect_5 7 rfl rfl)
theorem dX7_connect_125 : decode cX7_connect 125 = .ok (.ishr, 1) := dk_122 (dk_at dksX7_connect_5 9 rfl rfl)
theorem dX7_connect_126 : decode cX7_connect 126 = .ok (.iconst 1, 1) := dk_4 (dk_at dksX7_connect_5 10 rfl rfl)
theorem dX7_connect_127 : decode cX7_connect 127 = .ok (.iand, 1) := dk_126 (dk_at dksX7_connect_5 11 rfl rfl)
theorem dX7_connect_128 : decode cX7_connect 128 = .ok (.iconst 1, 1) := dk_4 (dk_at dksX7_connect_5 12 rfl rfl)
theorem dX7_connect_129 : decode cX7_connect 129 = .ok (.if_icmp .ne 9, 3) := dk_160 0 9 (dk_at dksX7_connect_5 13 rfl rfl)
theorem dX7_connect_132 : decode cX7_connect 132 = .ok (.iinc 5 1, 3) := dk_132 5 1 (dk_at dksX7_connect_5 16 rfl rfl)
theorem dX7_connect_135 : decode cX7_connect 135 = .ok (.goto (-21), 3) := dk_167 255 235 (dk_at dksX7_connect_5 19 rfl rfl)
theorem dX7_connect_138 : decode cX7_connect 138 = .ok (.iload 5, 2) := dk_21 5 (dk_at dksX7_connect_5 22 rfl rfl)
theorem dX7_connect_140 : decode cX7_connect 140 = .ok (.bipush 10, 2) := dk_16 10 (dk_at dksX7_connect_6 0 rfl rfl)
theorem dX7_connect_142 : decode cX7_connect 142 = .ok (.if_icmp .ne 9, 3) := dk_160 0 9 (dk_at dksX7_connect_6 2 rfl rfl)
theorem dX7_connect_145 : decode cX7_connect 145 = .ok (.aload_n 0, 1) := dk_42 (dk_at dksX7_connect_6 5 rfl rfl)
theorem dX7_connect_146 : decode cX7_connect 146 = .ok (.iconst 3, 1) := dk_6 (dk_at dksX7_connect_6 6 rfl rfl)
theorem dX7_connect_147 : decode cX7_connect 147 = .ok (.invokevirtual 228, 3) := dk_182 0 228 (dk_at dksX7_connect_6 7 rfl rfl)
theorem dX7_connect_150 : decode cX7_connect 150 = .ok (.ireturn, 1) := dk_172 (dk_at dksX7_connect_6 10 rfl rfl)
theorem dX7_connect_151 : decode cX7_connect 151 = .ok (.aload_n 0, 1) := dk_42 (dk_at dksX7_connect_6 11 rfl rfl)
theorem dX7_connect_152 : decode cX7_connect 152 = .ok (.getfield 102, 3) := dk_180 0 102 (dk_at dksX7_connect_6 12 rfl rfl)
theorem dX7_connect_155 : decode cX7_connect 155 = .ok (.iconst 3, 1) := dk_6 (dk_at dksX7_connect_6 15 rfl rfl)
theorem dX7_connect_156 : decode cX7_connect 156 = .ok (.iload_n 3, 1) := dk_29 (dk_at dksX7_connect_6 16 rfl rfl)
theorem dX7_connect_157 : decode cX7_connect 157 = .ok (.imul, 1) := dk_104 (dk_at dksX7_connect_6 17 rfl rfl)
theorem dX7_connect_158 : decode cX7_connect 158 = .ok (.iload_n 2, 1) := dk_28 (dk_at dksX7_connect_6 18 rfl rfl)
theorem dX7_connect_159 : decode cX7_connect 159 = .ok (.iadd, 1) := dk_96 (dk_at dksX7_connect_6 19 rfl rfl)
theorem dX7_connect_160 : decode cX7_connect 160 = .ok (.iload 5, 2) := dk_21 5 (dk_at dksX7_connect_6 20 rfl rfl)
theorem dX7_connect_162 : decode cX7_connect 162 = .ok (.iastore, 1) := dk_79 (dk_at dksX7_connect_6 22 rfl rfl)
theorem dX7_connect_163 : decode cX7_connect 163 = .ok (.iload 5, 2) := dk_21 5 (dk_at dksX7_connect_7 0 rfl rfl)
theorem dX7_connect_165 : decode cX7_connect 165 = .ok (.ireturn, 1) := dk_172 (dk_at dksX7_connect_7 2 rfl rfl)
abbrev cX7_disconnect : ByteArray := prog_17_method_74_code
def yX7_disconnect : MethodName := ⟨RX7, "disconnect", "(II)I"⟩
def dkwX7_disconnect_3 : List UInt8 := [54, 4, 42, 180, 0, 102, 6, 29, 104, 28, 96, 3, 79, 21, 4, 172]
abbrev dktX7_disconnect_3 : List UInt8 := dkwX7_disconnect_3 ++ []
def dkwX7_disconnect_2 : List UInt8 := [3, 181, 0, 189, 42, 180, 0, 189, 158, 0, 5, 3, 172, 42, 180, 0, 102, 6, 29, 104, 28, 96, 46]
abbrev dktX7_disconnect_2 : List UInt8 := dkwX7_disconnect_2 ++ dktX7_disconnect_3
def dkwX7_disconnect_1 : List UInt8 := [154, 0, 7, 5, 167, 0, 21, 42, 180, 0, 102, 6, 29, 104, 28, 96, 46, 154, 0, 7, 6, 167, 0, 4]
abbrev dktX7_disconnect_1 : List UInt8 := dkwX7_disconnect_1 ++ dktX7_disconnect_2
def dkwX7_disconnect_0 : List UInt8 := [42, 27, 182, 1, 24, 62, 42, 29, 2, 160, 0, 7, 4, 167, 0, 34, 28, 3, 5, 184, 0, 192]
abbrev dktX7_disconnect_0 : List UInt8 := dkwX7_disconnect_0 ++ dktX7_disconnect_1
theorem dksX7_disconnect_0 : cX7_disconnect.data.toList.drop 0 = dktX7_disconnect_0 := by decide +kernel
theorem dksX7_disconnect_1 : cX7_disconnect.data.toList.drop 22 = dktX7_disconnect_1 := dk_seg dksX7_disconnect_0 22 rfl rfl
theorem dksX7_disconnect_2 : cX7_disconnect.data.toList.drop 46 = dktX7_disconnect_2 := dk_seg dksX7_disconnect_1 24 rfl rfl
theorem dksX7_disconnect_3 : cX7_disconnect.data.toList.drop 69 = dktX7_disconnect_3 := dk_seg dksX7_disconnect_2 23 rfl rfl
theorem dX7_disconnect_0 : decode cX7_disconnect 0 = .ok (.aload_n 0, 1) := dk_42 (dk_at dksX7_disconnect_0 0 rfl rfl)
theorem dX7_disconnect_1 : decode cX7_disconnect 1 = .ok (.iload_n 1, 1) := dk_27 (dk_at dksX7_disconnect_0 1 rfl rfl)
theorem dX7_disconnect_2 : decode cX7_disconnect 2 = .ok (.invokevirtual 280, 3) := dk_182 1 24 (dk_at dksX7_disconnect_0 2 rfl rfl)
theorem dX7_disconnect_5 : decode cX7_disconnect 5 = .ok (.istore_n 3, 1) := dk_62 (dk_at dksX7_disconnect_0 5 rfl rfl)
theorem dX7_disconnect_6 : decode cX7_disconnect 6 = .ok (.aload_n 0, 1) := dk_42 (dk_at dksX7_disconnect_0 6 rfl rfl)
theorem dX7_disconnect_7 : decode cX7_disconnect 7 = .ok (.iload_n 3, 1) := dk_29 (dk_at dksX7_disconnect_0 7 rfl rfl)
theorem dX7_disconnect_8 : decode cX7_disconnect 8 = .ok (.iconst (-1), 1) := dk_2 (dk_at dksX7_disconnect_0 8 rfl rfl)
theorem dX7_disconnect_9 : decode cX7_disconnect 9 = .ok (.if_icmp .ne 7, 3) := dk_160 0 7 (dk_at dksX7_disconnect_0 9 rfl rfl)
theorem dX7_disconnect_12 : decode cX7_disconnect 12 = .ok (.iconst 1, 1) := dk_4 (dk_at dksX7_disconnect_0 12 rfl rfl)
theorem dX7_disconnect_13 : decode cX7_disconnect 13 = .ok (.goto 34, 3) := dk_167 0 34 (dk_at dksX7_disconnect_0 13 rfl rfl)
theorem dX7_disconnect_16 : decode cX7_disconnect 16 = .ok (.iload_n 2, 1) := dk_28 (dk_at dksX7_disconnect_0 16 rfl rfl)
theorem dX7_disconnect_17 : decode cX7_disconnect 17 = .ok (.iconst 0, 1) := dk_3 (dk_at dksX7_disconnect_0 17 rfl rfl)
theorem dX7_disconnect_18 : decode cX7_disconnect 18 = .ok (.iconst 2, 1) := dk_5 (dk_at dksX7_disconnect_0 18 rfl rfl)
theorem dX7_disconnect_19 : decode cX7_disconnect 19 = .ok (.invokestatic 192, 3) := dk_184 0 192 (dk_at dksX7_disconnect_0 19 rfl rfl)
theorem dX7_disconnect_22 : decode cX7_disconnect 22 = .ok (.ifCond .ne 7, 3) := dk_154 0 7 (dk_at dksX7_disconnect_1 0 rfl rfl)
theorem dX7_disconnect_25 : decode cX7_disconnect 25 = .ok (.iconst 2, 1) := dk_5 (dk_at dksX7_disconnect_1 3 rfl rfl)
theorem dX7_disconnect_26 : decode cX7_disconnect 26 = .ok (.goto 21, 3) := dk_167 0 21 (dk_at dksX7_disconnect_1 4 rfl rfl)
theorem dX7_disconnect_29 : decode cX7_disconnect 29 = .ok (.aload_n 0, 1) := dk_42 (dk_at dksX7_disconnect_1 7 rfl rfl)
theorem dX7_disconnect_30 : decode cX7_disconnect 30 = .ok (.getfield 102, 3) := dk_180 0 102 (dk_at dksX7_disconnect_1 8 rfl rfl)
theorem dX7_disconnect_33 : decode cX7_disconnect 33 = .ok (.iconst 3, 1) := dk_6 (dk_at dksX7_disconnect_1 11 rfl rfl)
theorem dX7_disconnect_34 : decode cX7_disconnect 34 = .ok (.iload_n 3, 1) := dk_29 (dk_at dksX7_disconnect_1 12 rfl rfl)
theorem dX7_disconnect_35 : decode cX7_disconnect 35 = .ok (.imul, 1) := dk_104 (dk_at dksX7_disconnect_1 13 rfl rfl)
theorem dX7_disconnect_36 : decode cX7_disconnect 36 = .ok (.iload_n 2, 1) := dk_28 (dk_at dksX7_disconnect_1 14 rfl rfl)
theorem dX7_disconnect_37 : decode cX7_disconnect 37 = .ok (.iadd, 1) := dk_96 (dk_at dksX7_disconnect_1 15 rfl rfl)
theorem dX7_disconnect_38 : decode cX7_disconnect 38 = .ok (.iaload, 1) := dk_46 (dk_at dksX7_disconnect_1 16 rfl rfl)
theorem dX7_disconnect_39 : decode cX7_disconnect 39 = .ok (.ifCond .ne 7, 3) := dk_154 0 7 (dk_at dksX7_disconnect_1 17 rfl rfl)
theorem dX7_disconnect_42 : decode cX7_disconnect 42 = .ok (.iconst 3, 1) := dk_6 (dk_at dksX7_disconnect_1 20 rfl rfl)
theorem dX7_disconnect_43 : decode cX7_disconnect 43 = .ok (.goto 4, 3) := dk_167 0 4 (dk_at dksX7_disconnect_1 21 rfl rfl)
theorem dX7_disconnect_46 : decode cX7_disconnect 46 = .ok (.iconst 0, 1) := dk_3 (dk_at dksX7_disconnect_2 0 rfl rfl)
theorem dX7_disconnect_47 : decode cX7_disconnect 47 = .ok (.putfield 189, 3) := dk_181 0 189 (dk_at dksX7_disconnect_2 1 rfl rfl)
theorem dX7_disconnect_50 : decode cX7_disconnect 50 = .ok (.aload_n 0, 1) := dk_42 (dk_at dksX7_disconnect_2 4 rfl rfl)
theorem dX7_disconnect_51 : decode cX7_disconnect 51 = .ok (.getfield 189, 3) := dk_180 0 189 (dk_at dksX7_disconnect_2 5 rfl rfl)
theorem dX7_disconnect_54 : decode cX7_disconnect 54 = .ok (.ifCond .le 5, 3) := dk_158 0 5 (dk_at dksX7_disconnect_2 8 rfl rfl)
theorem dX7_disconnect_57 : decode cX7_disconnect 57 = .ok (.iconst 0, 1) := dk_3 (dk_at dksX7_disconnect_2 11 rfl rfl)
theorem dX7_disconnect_58 : decode cX7_disconnect 58 = .ok (.ireturn, 1) := dk_172 (dk_at dksX7_disconnect_2 12 rfl rfl)
theorem dX7_disconnect_59 : decode cX7_disconnect 59 = .ok (.aload_n 0, 1) := dk_42 (dk_at dksX7_disconnect_2 13 rfl rfl)
theorem dX7_disconnect_60 : decode cX7_disconnect 60 = .ok (.getfield 102, 3) := dk_180 0 102 (dk_at dksX7_disconnect_2 14 rfl rfl)
theorem dX7_disconnect_63 : decode cX7_disconnect 63 = .ok (.iconst 3, 1) := dk_6 (dk_at dksX7_disconnect_2 17 rfl rfl)
theorem dX7_disconnect_64 : decode cX7_disconnect 64 = .ok (.iload_n 3, 1) := dk_29 (dk_at dksX7_disconnect_2 18 rfl rfl)
theorem dX7_disconnect_65 : decode cX7_disconnect 65 = .ok (.imul, 1) := dk_104 (dk_at dksX7_disconnect_2 19 rfl rfl)
theorem dX7_disconnect_66 : decode cX7_disconnect 66 = .ok (.iload_n 2, 1) := dk_28 (dk_at dksX7_disconnect_2 20 rfl rfl)
theorem dX7_disconnect_67 : decode cX7_disconnect 67 = .ok (.iadd, 1) := dk_96 (dk_at dksX7_disconnect_2 21 rfl rfl)
theorem dX7_disconnect_68 : decode cX7_disconnect 68 = .ok (.iaload, 1) := dk_46 (dk_at dksX7_disconnect_2 22 rfl rfl)
theorem dX7_disconnect_69 : decode cX7_disconnect 69 = .ok (.istore 4, 2) := dk_54 4 (dk_at dksX7_disconnect_3 0 rfl rfl)
theorem dX7_disconnect_71 : decode cX7_disconnect 71 = .ok (.aload_n 0, 1) := dk_42 (dk_at dksX7_disconnect_3 2 rfl rfl)
theorem dX7_disconnect_72 : decode cX7_disconnect 72 = .ok (.getfield 102, 3) := dk_180 0 102 (dk_at dksX7_disconnect_3 3 rfl rfl)
theorem dX7_disconnect_75 : decode cX7_disconnect 75 = .ok (.iconst 3, 1) := dk_6 (dk_at dksX7_disconnect_3 6 rfl rfl)
theorem dX7_disconnect_76 : decode cX7_disconnect 76 = .ok (.iload_n 3, 1) := dk_29 (dk_at dksX7_disconnect_3 7 rfl rfl)
theorem dX7_disconnect_77 : decode cX7_disconnect 77 = .ok (.imul, 1) := dk_104 (dk_at dksX7_disconnect_3 8 rfl rfl)
theorem dX7_disconnect_78 : decode cX7_disconnect 78 = .ok (.iload_n 2, 1) := dk_28 (dk_at dksX7_disconnect_3 9 rfl rfl)
theorem dX7_disconnect_79 : decode cX7_disconnect 79 = .ok (.iadd, 1) := dk_96 (dk_at dksX7_disconnect_3 10 rfl rfl)
theorem dX7_disconnect_80 : decode cX7_disconnect 80 = .ok (.iconst 0, 1) := dk_3 (dk_at dksX7_disconnect_3 11 rfl rfl)
theorem dX7_disconnect_81 : decode cX7_disconnect 81 = .ok (.iastore, 1) := dk_79 (dk_at dksX7_disconnect_3 12 rfl rfl)
theorem dX7_disconnect_82 : decode cX7_disconnect 82 = .ok (.iload 4, 2) := dk_21 4 (dk_at dksX7_disconnect_3 13 rfl rfl)
theorem dX7_disconnect_84 : decode cX7_disconnect 84 = .ok (.ireturn, 1) := dk_172 (dk_at dksX7_disconnect_3 15 rfl rfl)
abbrev cX7_find : ByteArray := prog_17_method_75_code
def yX7_find : MethodName := ⟨RX7, "find", "(II)I"⟩
def dkwX7_find_9 : List UInt8 := [167, 0, 4, 2, 172]
abbrev dktX7_find_9 : List UInt8 := dkwX7_find_9 ++ []
def dkwX7_find_8 : List UInt8 := [21, 5, 104, 21, 4, 96, 46, 96, 172, 132, 4, 1, 167, 255, 95, 42, 180, 0, 189, 158, 0, 7, 3]
abbrev dktX7_find_8 : List UInt8 := dkwX7_find_8 ++ dktX7_find_9
def dkwX7_find_7 : List UInt8 := [54, 5, 132, 6, 1, 167, 255, 145, 21, 5, 2, 159, 0, 22, 16, 10, 21, 4, 104, 42, 180, 0, 102, 6]
abbrev dktX7_find_7 : List UInt8 := dkwX7_find_7 ++ dktX7_find_8
def dkwX7_find_6 : List UInt8 := [180, 0, 50, 21, 6, 46, 42, 180, 0, 50, 21, 5, 46, 162, 0, 8, 21, 6, 167, 0, 5, 21, 5]
abbrev dktX7_find_6 : List UInt8 := dkwX7_find_6 ++ dktX7_find_7
def dkwX7_find_5 : List UInt8 := [160, 0, 7, 4, 167, 0, 4, 3, 54, 7, 21, 7, 153, 0, 31, 21, 5, 2, 159, 0, 20, 42]
abbrev dktX7_find_5 : List UInt8 := dkwX7_find_5 ++ dktX7_find_6
def dkwX7_find_4 : List UInt8 := [42, 180, 0, 102, 6, 21, 6, 104, 21, 4, 96, 46, 158, 0, 18, 42, 180, 0, 56, 21, 6, 46, 28]
abbrev dktX7_find_4 : List UInt8 := dkwX7_find_4 ++ dktX7_find_5
def dkwX7_find_3 : List UInt8 := [21, 4, 96, 46, 158, 0, 96, 42, 180, 0, 50, 21, 6, 46, 2, 159, 0, 39, 21, 6, 29, 159, 0, 33]
abbrev dktX7_find_3 : List UInt8 := dkwX7_find_3 ++ dktX7_find_4
def dkwX7_find_2 : List UInt8 := [154, 0, 154, 2, 54, 5, 3, 54, 6, 21, 6, 16, 8, 162, 0, 110, 42, 180, 0, 102, 6, 29, 104]
abbrev dktX7_find_2 : List UInt8 := dkwX7_find_2 ++ dktX7_find_3
def dkwX7_find_1 : List UInt8 := [154, 0, 7, 5, 167, 0, 4, 3, 181, 0, 189, 3, 54, 4, 21, 4, 6, 162, 0, 161, 42, 180, 0, 189]
abbrev dktX7_find_1 : List UInt8 := dkwX7_find_1 ++ dktX7_find_2
def dkwX7_find_0 : List UInt8 := [42, 27, 182, 1, 24, 62, 42, 29, 2, 160, 0, 7, 4, 167, 0, 18, 28, 3, 16, 9, 184, 0, 192]
abbrev dktX7_find_0 : List UInt8 := dkwX7_find_0 ++ dktX7_find_1
theorem dksX7_find_0 : cX7_find.data.toList.drop 0 = dktX7_find_0 := by decide +kernel
theorem dksX7_find_1 : cX7_find.data.toList.drop 23 = dktX7_find_1 := dk_seg dksX7_find_0 23 rfl rfl
theorem dksX7_find_2 : cX7_find.data.toList.drop 47 = dktX7_find_2 := dk_seg dksX7_find_1 24 rfl rfl
theorem dksX7_find_3 : cX7_find.data.toList.drop 70 = dktX7_find_3 := dk_seg dksX7_find_2 23 rfl rfl
theorem dksX7_find_4 : cX7_find.data.toList.drop 94 = dktX7_find_4 := dk_seg dksX7_find_3 24 rfl rfl
theorem dksX7_find_5 : cX7_find.data.toList.drop 117 = dktX7_find_5 := dk_seg dksX7_find_4 23 rfl rfl
theorem dksX7_find_6 : cX7_find.data.toList.drop 139 = dktX7_find_6 := dk_seg dksX7_find_5 22 rfl rfl
theorem dksX7_find_7 : cX7_find.data.toList.drop 162 = dktX7_find_7 := dk_seg dksX7_find_6 23 rfl rfl
theorem dksX7_find_8 : cX7_find.data.toList.drop 186 = dktX7_find_8 := dk_seg dksX7_find_7 24 rfl rfl
theorem dksX7_find_9 : cX7_find.data.toList.drop 209 = dktX7_find_9 := dk_seg dksX7_find_8 23 rfl rfl
theorem dX7_find_0 : decode cX7_find 0 = .ok (.aload_n 0, 1) := dk_42 (dk_at dksX7_find_0 0 rfl rfl)
theorem dX7_find_1 : decode cX7_find 1 = .ok (.iload_n 1, 1) := dk_27 (dk_at dksX7_find_0 1 rfl rfl)
theorem dX7_find_2 : decode cX7_find 2 = .ok (.invokevirtual 280, 3) := dk_182 1 24 (dk_at dksX7_find_0 2 rfl rfl)
theorem dX7_find_5 : decode cX7_find 5 = .ok (.istore_n 3, 1) := dk_62 (dk_at dksX7_find_0 5 rfl rfl)
theorem dX7_find_6 : decode cX7_find 6 = .ok (.aload_n 0, 1) := dk_42 (dk_at dksX7_find_0 6 rfl rfl)
theorem dX7_find_7 : decode cX7_find 7 = .ok (.iload_n 3, 1) := dk_29 (dk_at dksX7_find_0 7 rfl rfl)
theorem dX7_find_8 : decode cX7_find 8 = .ok (.iconst (-1), 1) := dk_2 (dk_at dksX7_find_0 8 rfl rfl)
theorem dX7_find_9 : decode cX7_find 9 = .ok (.if_icmp .ne 7, 3) := dk_160 0 7 (dk_at dksX7_find_0 9 rfl rfl)
theorem dX7_find_12 : decode cX7_find 12 = .ok (.iconst 1, 1) := dk_4 (dk_at dksX7_find_0 12 rfl rfl)
theorem dX7_find_13 : decode cX7_find 13 = .ok (.goto 18, 3) := dk_167 0 18 (dk_at dksX7_find_0 13 rfl rfl)
theorem dX7_find_16 : decode cX7_find 16 = .ok (.iload_n 2, 1) := dk_28 (dk_at dksX7_find_0 16 rfl rfl)
theorem dX7_find_17 : decode cX7_find 17 = .ok (.iconst 0, 1) := dk_3 (dk_at dksX7_find_0 17 rfl rfl)
theorem dX7_find_18 : decode cX7_find 18 = .ok (.bipush 9, 2) := dk_16 9 (dk_at dksX7_find_0 18 rfl rfl)
theorem dX7_find_20 : decode cX7_find 20 = .ok (.invokestatic 192, 3) := dk_184 0 192 (dk_at dksX7_find_0 20 rfl rfl)
theorem dX7_find_23 : decode cX7_find 23 = .ok (.ifCond .ne 7, 3) := dk_154 0 7 (dk_at dksX7_find_1 0 rfl rfl)
theorem dX7_find_26 : decode cX7_find 26 = .ok (.iconst 2, 1) := dk_5 (dk_at dksX7_find_1 3 rfl rfl)
theorem dX7_find_27 : decode cX7_find 27 = .ok (.goto 4, 3) := dk_167 0 4 (dk_at dksX7_find_1 4 rfl rfl)
theorem dX7_find_30 : decode cX7_find 30 = .ok (.iconst 0, 1) := dk_3 (dk_at dksX7_find_1 7 rfl rfl)
theorem dX7_find_31 : decode cX7_find 31 = .ok (.putfield 189, 3) := dk_181 0 189 (dk_at dksX7_find_1 8 rfl rfl)
theorem dX7_find_34 : decode cX7_find 34 = .ok (.iconst 0, 1) := dk_3 (dk_at dksX7_find_1 11 rfl rfl)
theorem dX7_find_35 : decode cX7_find 35 = .ok (.istore 4, 2) := dk_54 4 (dk_at dksX7_find_1 12 rfl rfl)
theorem dX7_find_37 : decode cX7_find 37 = .ok (.iload 4, 2) := dk_21 4 (dk_at dksX7_find_1 14 rfl rfl)
theorem dX7_find_39 : decode cX7_find 39 = .ok (.iconst 3, 1) := dk_6 (dk_at dksX7_find_1 16 rfl rfl)
theorem dX7_find_40 : decode cX7_find 40 = .ok (.if_icmp .ge 161, 3) := dk_162 0 161 (dk_at dksX7_find_1 17 rfl rfl)
theorem dX7_find_43 : decode cX7_find 43 = .ok (.aload_n 0, 1) := dk_42 (dk_at dksX7_find_1 20 rfl rfl)
theorem dX7_find_44 : decode cX7_find 44 = .ok (.getfield 189, 3) := dk_180 0 189 (dk_at dksX7_find_1 21 rfl rfl)
theorem dX7_find_47 : decode cX7_find 47 = .ok (.ifCond .ne 154, 3) := dk_154 0 154 (dk_at dksX7_find_2 0 rfl rfl)
theorem dX7_find_50 : decode cX7_find 50 = .ok (.iconst (-1), 1) := dk_2 (dk_at dksX7_find_2 3 rfl rfl)
theorem dX7_find_51 : decode cX7_find 51 = .ok (.istore 5, 2) := dk_54 5 (dk_at dksX7_find_2 4 rfl rfl)
theorem dX7_find_53 : decode cX7_find 53 = .ok (.iconst 0, 1) := dk_3 (dk_at dksX7_find_2 6 rfl rfl)
theorem dX7_find_54 : decode cX7_find 54 = .ok (.istore 6, 2) := dk_54 6 (dk_at dksX7_find_2 7 rfl rfl)
theorem dX7_find_56 : decode cX7_find 56 = .ok (.iload 6, 2) := dk_21 6 (dk_at dksX7_find_2 9 rfl rfl)
theorem dX7_find_58 : decode cX7_find 58 = .ok (.bipush 8, 2) := dk_16 8 (dk_at dksX7_find_2 11 rfl rfl)
theorem dX7_find_60 : decode cX7_find 60 = .ok (.if_icmp .ge 110, 3) := dk_162 0 110 (dk_at dksX7_find_2 13 rfl rfl)
theorem dX7_find_63 : decode cX7_find 63 = .ok (.aload_n 0, 1) := dk_42 (dk_at dksX7_find_2 16 rfl rfl)
theorem dX7_find_64 : decode cX7_find 64 = .ok (.getfield 102, 3) := dk_180 0 102 (dk_at dksX7_find_2 17 rfl rfl)
theorem dX7_find_67 : decode cX7_find 67 = .ok (.iconst 3, 1) := dk_6 (dk_at dksX7_find_2 20 rfl rfl)
theorem dX7_find_68 : decode cX7_find 68 = .ok (.iload_n 3, 1) := dk_29 (dk_at dksX7_find_2 21 rfl rfl)
theorem dX7_find_69 : decode cX7_find 69 = .ok (.imul, 1) := dk_104 (dk_at dksX7_find_2 22 rfl rfl)
theorem dX7_find_70 : decode cX7_find 70 = .ok (.iload 4, 2) := dk_21 4 (dk_at dksX7_find_3 0 rfl rfl)
theorem dX7_find_72 : decode cX7_find 72 = .ok (.iadd, 1) := dk_96 (dk_at dksX7_find_3 2 rfl rfl)
theorem dX7_find_73 : decode cX7_find 73 = .ok (.iaload, 1) := dk_46 (dk_at dksX7_find_3 3 rfl rfl)
theorem dX7_find_74 : decode cX7_find 74 = .ok (.ifCond .le 96, 3) := dk_158 0 96 (dk_at dksX7_find_3 4 rfl rfl)
theorem dX7_find_77 : decode cX7_find 77 = .ok (.aload_n 0, 1) := dk_42 (dk_at dksX7_find_3 7 rfl rfl)
theorem dX7_find_78 : decode cX7_find 78 = .ok (.getfield 50, 3) := dk_180 0 50 (dk_at dksX7_find_3 8 rfl rfl)
theorem dX7_find_81 : decode cX7_find 81 = .ok (.iload 6, 2) := dk_21 6 (dk_at dksX7_find_3 11 rfl rfl)
theorem dX7_find_83 : decode cX7_find 83 = .ok (.iaload, 1) := dk_46 (dk_at dksX7_find_3 13 rfl rfl)
theorem dX7_find_84 : decode cX7_find 84 = .ok (.iconst (-1), 1) := dk_2 (dk_at dksX7_find_3 14 rfl rfl)
theorem dX7_find_85 : decode cX7_find 85 = .ok (.if_icmp .eq 39, 3) := dk_159 0 39 (dk_at dksX7_find_3 15 rfl rfl)
theorem dX7_find_88 : decode cX7_find 88 = .ok (.iload 6, 2) := dk_21 6 (dk_at dksX7_find_3 18 rfl rfl)
theorem dX7_find_90 : decode cX7_find 90 = .ok (.iload_n 3, 1) := dk_29 (dk_at dksX7_find_3 20 rfl rfl)
theorem dX7_find_91 : decode cX7_find 91 = .ok (.if_icmp .eq 33, 3) := dk_159 0 33 (dk_at dksX7_find_3 21 rfl rfl)
theorem dX7_find_94 : decode cX7_find 94 = .ok (.aload_n 0, 1) := dk_42 (dk_at dksX7_find_4 0 rfl rfl)
theorem dX7_find_95 : decode cX7_find 95 = .ok (.getfield 102, 3) := dk_180 0 102 (dk_at dksX7_find_4 1 rfl rfl)
theorem dX7_find_98 : decode cX7_find 98 = .ok (.iconst 3, 1) := dk_6 (dk_at dksX7_find_4 4 rfl rfl)
theorem dX7_find_99 : decode cX7_find 99 = .ok (.iload 6, 2) := dk_21 6 (dk_at dksX7_find_4 5 rfl rfl)
theorem dX7_find_101 : decode cX7_find 101 = .ok (.imul, 1) := dk_104 (dk_at dksX7_find_4 7 rfl rfl)
theorem dX7_find_102 : decode cX7_find 102 = .ok (.iload 4, 2) := dk_21 4 (dk_at dksX7_find_4 8 rfl rfl)
theorem dX7_find_104 : decode cX7_find 104 = .ok (.iadd, 1) := dk_96 (dk_at dksX7_find_4 10 rfl rfl)
theorem dX7_find_105 : decode cX7_find 105 = .ok (.iaload, 1) := dk_46 (dk_at dksX7_find_4 11 rfl rfl)
theorem dX7_find_106 : decode cX7_find 106 = .ok (.ifCond .le 18, 3) := dk_158 0 18 (dk_at dksX7_find_4 12 rfl rfl)
theorem dX7_find_109 : decode cX7_find 109 = .ok (.aload_n 0, 1) := dk_42 (dk_at dksX7_find_4 15 rfl rfl)
theorem dX7_find_110 : decode cX7_find 110 = .ok (.getfield 56, 3) := dk_180 0 56 (dk_at dksX7_find_4 16 rfl rfl)
theorem dX7_find_113 : decode cX7_find 113 = .ok (.iload 6, 2) := dk_21 6 (dk_at dksX7_find_4 19 rfl rfl)
theorem dX7_find_115 : decode cX7_find 115 = .ok (.iaload, 1) := dk_46 (dk_at dksX7_find_4 21 rfl rfl)
theorem dX7_find_116 : decode cX7_find 116 = .ok (.iload_n 2, 1) := dk_28 (dk_at dksX7_find_4 22 rfl rfl)
theorem dX7_find_117 : decode cX7_find 117 = .ok (.if_icmp .ne 7, 3) := dk_160 0 7 (dk_at dksX7_find_5 0 rfl rfl)
theorem dX7_find_120 : decode cX7_find 120 = .ok (.iconst 1, 1) := dk_4 (dk_at dksX7_find_5 3 rfl rfl)
theorem dX7_find_121 : decode cX7_find 121 = .ok (.goto 4, 3) := dk_167 0 4 (dk_at dksX7_find_5 4 rfl rfl)
theorem dX7_find_124 : decode cX7_find 124 = .ok (.iconst 0, 1) := dk_3 (dk_at dksX7_find_5 7 rfl rfl)
theorem dX7_find_125 : decode cX7_find 125 = .ok (.istore 7, 2) := dk_54 7 (dk_at dksX7_find_5 8 rfl rfl)
theorem dX7_find_127 : decode cX7_find 127 = .ok (.iload 7, 2) := dk_21 7 (dk_at dksX7_find_5 10 rfl rfl)
theorem dX7_find_129 : decode cX7_find 129 = .ok (.ifCond .eq 31, 3) := dk_153 0 31 (dk_at dksX7_find_5 12 rfl rfl)
theorem dX7_find_132 : decode cX7_find 132 = .ok (.iload 5, 2) := dk_21 5 (dk_at dksX7_find_5 15 rfl rfl)
theorem dX7_find_134 : decode cX7_find 134 = .ok (.iconst (-1), 1) := dk_2 (dk_at dksX7_find_5 17 rfl rfl)
theorem dX7_find_135 : decode cX7_find 135 = .ok (.if_icmp .eq 20, 3) := dk_159 0 20 (dk_at dksX7_find_5 18 rfl rfl)
theorem dX7_find_138 : decode cX7_find 138 = .ok (.aload_n 0, 1) := dk_42 (dk_at dksX7_find_5 21 rfl rfl)
theorem dX7_find_139 : decode cX7_find 139 = .ok (.getfield 50, 3) := dk_180 0 50 (dk_at dksX7_find_6 0 rfl rfl)
theorem dX7_find_142 : decode cX7_find 142 = .ok (.iload 6, 2) := dk_21 6 (dk_at dksX7_find_6 3 rfl rfl)
theorem dX7_find_144 : decode cX7_find 144 = .ok (.iaload, 1) := dk_46 (dk_at dksX7_find_6 5 rfl rfl)
theorem dX7_find_145 : decode cX7_find 145 = .ok (.aload_n 0, 1) := dk_42 (dk_at dksX7_find_6 6 rfl rfl)
theorem dX7_find_146 : decode cX7_find 146 = .ok (.getfield 50, 3) := dk_180 0 50 (dk_at dksX7_find_6 7 rfl rfl)
theorem dX7_find_149 : decode cX7_find 149 = .ok (.iload 5, 2) := dk_21 5 (dk_at dksX7_find_6 10 rfl rfl)
theorem dX7_find_151 : decode cX7_find 151 = .ok (.iaload, 1) := dk_46 (dk_at dksX7_find_6 12 rfl rfl)
theorem dX7_find_152 : decode cX7_find 152 = .ok (.if_icmp .ge 8, 3) := dk_162 0 8 (dk_at dksX7_find_6 13 rfl rfl)
theorem dX7_find_155 : decode cX7_find 155 = .ok (.iload 6, 2) := dk_21 6 (dk_at dksX7_find_6 16 rfl rfl)
theorem dX7_find_157 : decode cX7_find 157 = .ok (.goto 5, 3) := dk_167 0 5 (dk_at dksX7_find_6 18 rfl rfl)
theorem dX7_find_160 : decode cX7_find 160 = .ok (.iload 5, 2) := dk_21 5 (dk_at dksX7_find_6 21 rfl rfl)
theorem dX7_find_162 : decode cX7_find 162 = .ok (.istore 5, 2) := dk_54 5 (dk_at dksX7_find_7 0 rfl rfl)
theorem dX7_find_164 : decode cX7_find 164 = .ok (.iinc 6 1, 3) := dk_132 6 1 (dk_at dksX7_find_7 2 rfl rfl)
theorem dX7_find_167 : decode cX7_find 167 = .ok (.goto (-111), 3) := dk_167 255 145 (dk_at dksX7_find_7 5 rfl rfl)
theorem dX7_find_170 : decode cX7_find 170 = .ok (.iload 5, 2) := dk_21 5 (dk_at dksX7_find_7 8 rfl rfl)
theorem dX7_find_172 : decode cX7_find 172 = .ok (.iconst (-1), 1) := dk_2 (dk_at dksX7_find_7 10 rfl rfl)
theorem dX7_find_173 : decode cX7_find 173 = .ok (.if_icmp .eq 22, 3) := dk_159 0 22 (dk_at dksX7_find_7 11 rfl rfl)
theorem dX7_find_176 : decode cX7_find 176 = .ok (.bipush 10, 2) := dk_16 10 (dk_at dksX7_find_7 14 rfl rfl)
theorem dX7_find_178 : decode cX7_find 178 = .ok (.iload 4, 2) := dk_21 4 (dk_at dksX7_find_7 16 rfl rfl)
theorem dX7_find_180 : decode cX7_find 180 = .ok (.imul, 1) := dk_104 (dk_at dksX7_find_7 18 rfl rfl)
theorem dX7_find_181 : decode cX7_find 181 = .ok (.aload_n 0, 1) := dk_42 (dk_at dksX7_find_7 19 rfl rfl)
theorem dX7_find_182 : decode cX7_find 182 = .ok (.getfield 102, 3) := dk_180 0 102 (dk_at dksX7_find_7 20 rfl rfl)
theorem dX7_find_185 : decode cX7_find 185 = .ok (.iconst 3, 1) := dk_6 (dk_at dksX7_find_7 23 rfl rfl)
theorem dX7_find_186 : decode cX7_find 186 = .ok (.iload 5, 2) := dk_21 5 (dk_at dksX7_find_8 0 rfl rfl)
theorem dX7_find_188 : decode cX7_find 188 = .ok (.imul, 1) := dk_104 (dk_at dksX7_find_8 2 rfl rfl)
theorem dX7_find_189 : decode cX7_find 189 = .ok (.iload 4, 2) := dk_21 4 (dk_at dksX7_find_8 3 rfl rfl)
theorem dX7_find_191 : decode cX7_find 191 = .ok (.iadd, 1) := dk_96 (dk_at dksX7_find_8 5 rfl rfl)
theorem dX7_find_192 : decode cX7_find 192 = .ok (.iaload, 1) := dk_46 (dk_at dksX7_find_8 6 rfl rfl)
theorem dX7_find_193 : decode cX7_find 193 = .ok (.iadd, 1) := dk_96 (dk_at dksX7_find_8 7 rfl rfl)
theorem dX7_find_194 : decode cX7_find 194 = .ok (.ireturn, 1) := dk_172 (dk_at dksX7_find_8 8 rfl rfl)
theorem dX7_find_195 : decode cX7_find 195 = .ok (.iinc 4 1, 3) := dk_132 4 1 (dk_at dksX7_find_8 9 rfl rfl)
theorem dX7_find_198 : decode cX7_find 198 = .ok (.goto (-161), 3) := dk_167 255 95 (dk_at dksX7_find_8 12 rfl rfl)
theorem dX7_find_201 : decode cX7_find 201 = .ok (.aload_n 0, 1) := dk_42 (dk_at dksX7_find_8 15 rfl rfl)
theorem dX7_find_202 : decode cX7_find 202 = .ok (.getfield 189, 3) := dk_180 0 189 (dk_at dksX7_find_8 16 rfl rfl)
theorem dX7_find_205 : decode cX7_find 205 = .ok (.ifCond .le 7, 3) := dk_158 0 7 (dk_at dksX7_find_8 19 rfl rfl)
theorem dX7_find_208 : decode cX7_find 208 = .ok (.iconst 0, 1) := dk_3 (dk_at dksX7_find_8 22 rfl rfl)
theorem dX7_find_209 : decode cX7_find 209 = .ok (.goto 4, 3) := dk_167 0 4 (dk_at dksX7_find_9 0 rfl rfl)
theorem dX7_find_212 : decode cX7_find 212 = .ok (.iconst (-1), 1) := dk_2 (dk_at dksX7_find_9 3 rfl rfl)
theorem dX7_find_213 : decode cX7_find 213 = .ok (.ireturn, 1) := dk_172 (dk_at dksX7_find_9 4 rfl rfl)
abbrev cX7_forward : ByteArray := prog_17_method_77_code
def yX7_forward : MethodName := ⟨RX7, "forward", "(III)V"⟩
def dkwX7_forward_3 : List UInt8 := [180, 0, 189, 154, 0, 17, 42, 180, 0, 105, 27, 28, 79, 42, 180, 0, 108, 27, 29, 79, 177]
abbrev dktX7_forward_3 : List UInt8 := dkwX7_forward_3 ++ []
def dkwX7_forward_2 : List UInt8 := [27, 46, 2, 160, 0, 12, 42, 21, 4, 182, 1, 102, 154, 0, 7, 6, 167, 0, 4, 3, 181, 0, 189, 42]
abbrev dktX7_forward_2 : List UInt8 := dkwX7_forward_2 ++ dktX7_forward_3
def dkwX7_forward_1 : List UInt8 := [184, 0, 192, 153, 0, 13, 29, 3, 16, 99, 184, 0, 192, 154, 0, 7, 5, 167, 0, 27, 42, 180, 0, 105]
abbrev dktX7_forward_1 : List UInt8 := dkwX7_forward_1 ++ dktX7_forward_2
def dkwX7_forward_0 : List UInt8 := [42, 28, 182, 1, 24, 54, 4, 42, 21, 4, 2, 160, 0, 7, 4, 167, 0, 51, 27, 3, 16, 99]
abbrev dktX7_forward_0 : List UInt8 := dkwX7_forward_0 ++ dktX7_forward_1
theorem dksX7_forward_0 : cX7_forward.data.toList.drop 0 = dktX7_forward_0 := by decide +kernel
theorem dksX7_forward_1 : cX7_forward.data.toList.drop 22 = dktX7_forward_1 := dk_seg dksX7_forward_0 22 rfl rfl
theorem dksX7_forward_2 : cX7_forward.data.toList.drop 46 = dktX7_forward_2 := dk_seg dksX7_forward_1 24 rfl rfl
theorem dksX7_forward_3 : cX7_forward.data.toList.drop 70 = dktX7_forward_3 := dk_seg dksX7_forward_2 24 rfl rfl
theorem dX7_forward_0 : decode cX7_forward 0 = .ok (.aload_n 0, 1) := dk_42 (dk_at dksX7_forward_0 0 rfl rfl)
theorem dX7_forward_1 : decode cX7_forward 1 = .ok (.iload_n 2, 1) := dk_28 (dk_at dksX7_forward_0 1 rfl rfl)
theorem dX7_forward_2 : decode cX7_forward 2 = .ok (.invokevirtual 280, 3) := dk_182 1 24 (dk_at dksX7_forward_0 2 rfl rfl)
theorem dX7_forward_5 : decode cX7_forward 5 = .ok (.istore 4, 2) := dk_54 4 (dk_at dksX7_forward_0 5 rfl rfl)
theorem dX7_forward_7 : decode cX7_forward 7 = .ok (.aload_n 0, 1) := dk_42 (dk_at dksX7_forward_0 7 rfl rfl)
theorem dX7_forward_8 : decode cX7_forward 8 = .ok (.iload 4, 2) := dk_21 4 (dk_at dksX7_forward_0 8 rfl rfl)
theorem dX7_forward_10 : decode cX7_forward 10 = .ok (.iconst (-1), 1) := dk_2 (dk_at dksX7_forward_0 10 rfl rfl)
theorem dX7_forward_11 : decode cX7_forward 11 = .ok (.if_icmp .ne 7, 3) := dk_160 0 7 (dk_at dksX7_forward_0 11 rfl rfl)
theorem dX7_forward_14 : decode cX7_forward 14 = .ok (.iconst 1, 1) := dk_4 (dk_at dksX7_forward_0 14 rfl rfl)
theorem dX7_forward_15 : decode cX7_forward 15 = .ok (.goto 51, 3) := dk_167 0 51 (dk_at dksX7_forward_0 15 rfl rfl)
theorem dX7_forward_18 : decode cX7_forward 18 = .ok (.iload_n 1, 1) := dk_27 (dk_at dksX7_forward_0 18 rfl rfl)
theorem dX7_forward_19 : decode cX7_forward 19 = .ok (.iconst 0, 1) := dk_3 (dk_at dksX7_forward_0 19 rfl rfl)
theorem dX7_forward_20 : decode cX7_forward 20 = .ok (.bipush 99, 2) := dk_16 99 (dk_at dksX7_forward_0 20 rfl rfl)
theorem dX7_forward_22 : decode cX7_forward 22 = .ok (.invokestatic 192, 3) := dk_184 0 192 (dk_at dksX7_forward_1 0 rfl rfl)
theorem dX7_forward_25 : decode cX7_forward 25 = .ok (.ifCond .eq 13, 3) := dk_153 0 13 (dk_at dksX7_forward_1 3 rfl rfl)
theorem dX7_forward_28 : decode cX7_forward 28 = .ok (.iload_n 3, 1) := dk_29 (dk_at dksX7_forward_1 6 rfl rfl)
theorem dX7_forward_29 : decode cX7_forward 29 = .ok (.iconst 0, 1) := dk_3 (dk_at dksX7_forward_1 7 rfl rfl)
theorem dX7_forward_30 : decode cX7_forward 30 = .ok (.bipush 99, 2) := dk_16 99 (dk_at dksX7_forward_1 8 rfl rfl)
theorem dX7_forward_32 : decode cX7_forward 32 = .ok (.invokestatic 192, 3) := dk_184 0 192 (dk_at dksX7_forward_1 10 rfl rfl)
theorem dX7_forward_35 : decode cX7_forward 35 = .ok (.ifCond .ne 7, 3) := dk_154 0 7 (dk_at dksX7_forward_1 13 rfl rfl)
theorem dX7_forward_38 : decode cX7_forward 38 = .ok (.iconst 2, 1) := dk_5 (dk_at dksX7_forward_1 16 rfl rfl)
theorem dX7_forward_39 : decode cX7_forward 39 = .ok (.goto 27, 3) := dk_167 0 27 (dk_at dksX7_forward_1 17 rfl rfl)
theorem dX7_forward_42 : decode cX7_forward 42 = .ok (.aload_n 0, 1) := dk_42 (dk_at dksX7_forward_1 20 rfl rfl)
theorem dX7_forward_43 : decode cX7_forward 43 = .ok (.getfield 105, 3) := dk_180 0 105 (dk_at dksX7_forward_1 21 rfl rfl)
theorem dX7_forward_46 : decode cX7_forward 46 = .ok (.iload_n 1, 1) := dk_27 (dk_at dksX7_forward_2 0 rfl rfl)
theorem dX7_forward_47 : decode cX7_forward 47 = .ok (.iaload, 1) := dk_46 (dk_at dksX7_forward_2 1 rfl rfl)
theorem dX7_forward_48 : decode cX7_forward 48 = .ok (.iconst (-1), 1) := dk_2 (dk_at dksX7_forward_2 2 rfl rfl)
theorem dX7_forward_49 : decode cX7_forward 49 = .ok (.if_icmp .ne 12, 3) := dk_160 0 12 (dk_at dksX7_forward_2 3 rfl rfl)
theorem dX7_forward_52 : decode cX7_forward 52 = .ok (.aload_n 0, 1) := dk_42 (dk_at dksX7_forward_2 6 rfl rfl)
theorem dX7_forward_53 : decode cX7_forward 53 = .ok (.iload 4, 2) := dk_21 4 (dk_at dksX7_forward_2 7 rfl rfl)
theorem dX7_forward_55 : decode cX7_forward 55 = .ok (.invokevirtual 358, 3) := dk_182 1 102 (dk_at dksX7_forward_2 9 rfl rfl)
theorem dX7_forward_58 : decode cX7_forward 58 = .ok (.ifCond .ne 7, 3) := dk_154 0 7 (dk_at dksX7_forward_2 12 rfl rfl)
theorem dX7_forward_61 : decode cX7_forward 61 = .ok (.iconst 3, 1) := dk_6 (dk_at dksX7_forward_2 15 rfl rfl)
theorem dX7_forward_62 : decode cX7_forward 62 = .ok (.goto 4, 3) := dk_167 0 4 (dk_at dksX7_forward_2 16 rfl rfl)
theorem dX7_forward_65 : decode cX7_forward 65 = .ok (.iconst 0, 1) := dk_3 (dk_at dksX7_forward_2 19 rfl rfl)
theorem dX7_forward_66 : decode cX7_forward 66 = .ok (.putfield 189, 3) := dk_181 0 189 (dk_at dksX7_forward_2 20 rfl rfl)
theorem dX7_forward_69 : decode cX7_forward 69 = .ok (.aload_n 0, 1) := dk_42 (dk_at dksX7_forward_2 23 rfl rfl)
theorem dX7_forward_70 : decode cX7_forward 70 = .ok (.getfield 189, 3) := dk_180 0 189 (dk_at dksX7_forward_3 0 rfl rfl)
theorem dX7_forward_73 : decode cX7_forward 73 = .ok (.ifCond .ne 17, 3) := dk_154 0 17 (dk_at dksX7_forward_3 3 rfl rfl)
theorem dX7_forward_76 : decode cX7_forward 76 = .ok (.aload_n 0, 1) := dk_42 (dk_at dksX7_forward_3 6 rfl rfl)
theorem dX7_forward_77 : decode cX7_forward 77 = .ok (.getfield 105, 3) := dk_180 0 105 (dk_at dksX7_forward_3 7 rfl rfl)
theorem dX7_forward_80 : decode cX7_forward 80 = .ok (.iload_n 1, 1) := dk_27 (dk_at dksX7_forward_3 10 rfl rfl)
theorem dX7_forward_81 : decode cX7_forward 81 = .ok (.iload_n 2, 1) := dk_28 (dk_at dksX7_forward_3 11 rfl rfl)
theorem dX7_forward_82 : decode cX7_forward 82 = .ok (.iastore, 1) := dk_79 (dk_at dksX7_forward_3 12 rfl rfl)
theorem dX7_forward_83 : decode cX7_forward 83 = .ok (.aload_n 0, 1) := dk_42 (dk_at dksX7_forward_3 13 rfl rfl)
theorem dX7_forward_84 : decode cX7_forward 84 = .ok (.getfield 108, 3) := dk_180 0 108 (dk_at dksX7_forward_3 14 rfl rfl)
theorem dX7_forward_87 : decode cX7_forward 87 = .ok (.iload_n 1, 1) := dk_27 (dk_at dksX7_forward_3 17 rfl rfl)
theorem dX7_forward_88 : decode cX7_forward 88 = .ok (.iload_n 3, 1) := dk_29 (dk_at dksX7_forward_3 18 rfl rfl)
theorem dX7_forward_89 : decode cX7_forward 89 = .ok (.iastore, 1) := dk_79 (dk_at dksX7_forward_3 19 rfl rfl)
theorem dX7_forward_90 : decode cX7_forward 90 = .ok (.return_, 1) := dk_177 (dk_at dksX7_forward_3 20 rfl rfl)
abbrev cX7_isConnected : ByteArray := prog_17_method_76_code
def yX7_isConnected : MethodName := ⟨RX7, "isConnected", "(I)Z"⟩
def dkwX7_isConnected_1 : List UInt8 := [27, 104, 5, 96, 46, 96, 158, 0, 7, 4, 167, 0, 4, 3, 172]
abbrev dktX7_isConnected_1 : List UInt8 := dkwX7_isConnected_1 ++ []
def dkwX7_isConnected_0 : List UInt8 := [42, 180, 0, 102, 6, 27, 104, 46, 42, 180, 0, 102, 6, 27, 104, 4, 96, 46, 96, 42, 180, 0, 102, 6]
abbrev dktX7_isConnected_0 : List UInt8 := dkwX7_isConnected_0 ++ dktX7_isConnected_1
theorem dksX7_isConnected_0 : cX7_isConnected.data.toList.drop 0 = dktX7_isConnected_0 := by decide +kernel
theorem dksX7_isConnected_1 : cX7_isConnected.data.toList.drop 24 = dktX7_isConnected_1 := dk_seg dksX7_isConnected_0 24 rfl rfl
theorem dX7_isConnected_0 : decode cX7_isConnected 0 = .ok (.aload_n 0, 1) := dk_42 (dk_at dksX7_isConnected_0 0 rfl rfl)
theorem dX7_isConnected_1 : decode cX7_isConnected 1 = .ok (.getfield 102, 3) := dk_180 0 102 (dk_at dksX7_isConnected_0 1 rfl rfl)
theorem dX7_isConnected_4 : decode cX7_isConnected 4 = .ok (.iconst 3, 1) := dk_6 (dk_at dksX7_isConnected_0 4 rfl rfl)
theorem dX7_isConnected_5 : decode cX7_isConnected 5 = .ok (.iload_n 1, 1) := dk_27 (dk_at dksX7_isConnected_0 5 rfl rfl)
theorem dX7_isConnected_6 : decode cX7_isConnected 6 = .ok (.imul, 1) := dk_104 (dk_at dksX7_isConnected_0 6 rfl rfl)
theorem dX7_isConnected_7 : decode cX7_isConnected 7 = .ok (.iaload, 1) := dk_46 (dk_at dksX7_isConnected_0 7 rfl rfl)
theorem dX7_isConnected_8 : decode cX7_isConnected 8 = .ok (.aload_n 0, 1) := dk_42 (dk_at dksX7_isConnected_0 8 rfl rfl)
theorem dX7_isConnected_9 : decode cX7_isConnected 9 = .ok (.getfield 102, 3) := dk_180 0 102 (dk_at dksX7_isConnected_0 9 rfl rfl)
theorem dX7_isConnected_12 : decode cX7_isConnected 12 = .ok (.iconst 3, 1) := dk_6 (dk_at dksX7_isConnected_0 12 rfl rfl)
theorem dX7_isConnected_13 : decode cX7_isConnected 13 = .ok (.iload_n 1, 1) := dk_27 (dk_at dksX7_isConnected_0 13 rfl rfl)
theorem dX7_isConnected_14 : decode cX7_isConnected 14 = .ok (.imul, 1) := dk_104 (dk_at dksX7_isConnected_0 14 rfl rfl)
theorem dX7_isConnected_15 : decode cX7_isConnected 15 = .ok (.iconst 1, 1) := dk_4 (dk_at dksX7_isConnected_0 15 rfl rfl)
theorem dX7_isConnected_16 : decode cX7_isConnected 16 = .ok (.iadd, 1) := dk_96 (dk_at dksX7_isConnected_0 16 rfl rfl)
theorem dX7_isConnected_17 : decode cX7_isConnected 17 = .ok (.iaload, 1) := dk_46 (dk_at dksX7_isConnected_0 17 rfl rfl)
theorem dX7_isConnected_18 : decode cX7_isConnected 18 = .ok (.iadd, 1) := dk_96 (dk_at dksX7_isConnected_0 18 rfl rfl)
theorem dX7_isConnected_19 : decode cX7_isConnected 19 = .ok (.aload_n 0, 1) := dk_42 (dk_at dksX7_isConnected_0 19 rfl rfl)
theorem dX7_isConnected_20 : decode cX7_isConnected 20 = .ok (.getfield 102, 3) := dk_180 0 102 (dk_at dksX7_isConnected_0 20 rfl rfl)
theorem dX7_isConnected_23 : decode cX7_isConnected 23 = .ok (.iconst 3, 1) := dk_6 (dk_at dksX7_isConnected_0 23 rfl rfl)
theorem dX7_isConnected_24 : decode cX7_isConnected 24 = .ok (.iload_n 1, 1) := dk_27 (dk_at dksX7_isConnected_1 0 rfl rfl)
theorem dX7_isConnected_25 : decode cX7_isConnected 25 = .ok (.imul, 1) := dk_104 (dk_at dksX7_isConnected_1 1 rfl rfl)
theorem dX7_isConnected_26 : decode cX7_isConnected 26 = .ok (.iconst 2, 1) := dk_5 (dk_at dksX7_isConnected_1 2 rfl rfl)
theorem dX7_isConnected_27 : decode cX7_isConnected 27 = .ok (.iadd, 1) := dk_96 (dk_at dksX7_isConnected_1 3 rfl rfl)
theorem dX7_isConnected_28 : decode cX7_isConnected 28 = .ok (.iaload, 1) := dk_46 (dk_at dksX7_isConnected_1 4 rfl rfl)
theorem dX7_isConnected_29 : decode cX7_isConnected 29 = .ok (.iadd, 1) := dk_96 (dk_at dksX7_isConnected_1 5 rfl rfl)
theorem dX7_isConnected_30 : decode cX7_isConnected 30 = .ok (.ifCond .le 7, 3) := dk_158 0 7 (dk_at dksX7_isConnected_1 6 rfl rfl)
theorem dX7_isConnected_33 : decode cX7_isConnected 33 = .ok (.iconst 1, 1) := dk_4 (dk_at dksX7_isConnected_1 9 rfl rfl)
theorem dX7_isConnected_34 : decode cX7_isConnected 34 = .ok (.goto 4, 3) := dk_167 0 4 (dk_at dksX7_isConnected_1 10 rfl rfl)
theorem dX7_isConnected_37 : decode cX7_isConnected 37 = .ok (.iconst 0, 1) := dk_3 (dk_at dksX7_isConnected_1 13 rfl rfl)
theorem dX7_isConnected_38 : decode cX7_isConnected 38 = .ok (.ireturn, 1) := dk_172 (dk_at dksX7_isConnected_1 14 rfl rfl)
abbrev cX7_leads : ByteArray := prog_17_method_78_code
def yX7_leads : MethodName := ⟨RX7, "leads", "(I)I"⟩
def dkwX7_leads_3 : List UInt8 := [180, 0, 108, 27, 46, 96, 172]
abbrev dktX7_leads_3 : List UInt8 := dkwX7_leads_3 ++ []
def dkwX7_leads_2 : List UInt8 := [182, 1, 24, 182, 1, 102, 154, 0, 7, 2, 167, 0, 19, 16, 100, 42, 180, 0, 105, 27, 46, 104, 42]
abbrev dktX7_leads_2 : List UInt8 := dkwX7_leads_2 ++ dktX7_leads_3
def dkwX7_leads_1 : List UInt8 := [158, 0, 5, 3, 172, 42, 180, 0, 105, 27, 46, 2, 159, 0, 20, 42, 42, 42, 180, 0, 105, 27, 46]
abbrev dktX7_leads_1 : List UInt8 := dkwX7_leads_1 ++ dktX7_leads_2
def dkwX7_leads_0 : List UInt8 := [42, 27, 3, 16, 99, 184, 0, 192, 153, 0, 7, 3, 167, 0, 4, 4, 181, 0, 189, 42, 180, 0, 189]
abbrev dktX7_leads_0 : List UInt8 := dkwX7_leads_0 ++ dktX7_leads_1
theorem dksX7_leads_0 : cX7_leads.data.toList.drop 0 = dktX7_leads_0 := by decide +kernel
theorem dksX7_leads_1 : cX7_leads.data.toList.drop 23 = dktX7_leads_1 := dk_seg dksX7_leads_0 23 rfl rfl
theorem dksX7_leads_2 : cX7_leads.data.toList.drop 46 = dktX7_leads_2 := dk_seg dksX7_leads_1 23 rfl rfl
theorem dksX7_leads_3 : cX7_leads.data.toList.drop 69 = dktX7_leads_3 := dk_seg dksX7_leads_2 23 rfl rfl
theorem dX7_leads_0 : decode cX7_leads 0 = .ok (.aload_n 0, 1) := dk_42 (dk_at dksX7_leads_0 0 rfl rfl)
theorem dX7_leads_1 : decode cX7_leads 1 = .ok (.iload_n 1, 1) := dk_27 (dk_at dksX7_leads_0 1 rfl rfl)
theorem dX7_leads_2 : decode cX7_leads 2 = .ok (.iconst 0, 1) := dk_3 (dk_at dksX7_leads_0 2 rfl rfl)
theorem dX7_leads_3 : decode cX7_leads 3 = .ok (.bipush 99, 2) := dk_16 99 (dk_at dksX7_leads_0 3 rfl rfl)
theorem dX7_leads_5 : decode cX7_leads 5 = .ok (.invokestatic 192, 3) := dk_184 0 192 (dk_at dksX7_leads_0 5 rfl rfl)
theorem dX7_leads_8 : decode cX7_leads 8 = .ok (.ifCond .eq 7, 3) := dk_153 0 7 (dk_at dksX7_leads_0 8 rfl rfl)
theorem dX7_leads_11 : decode cX7_leads 11 = .ok (.iconst 0, 1) := dk_3 (dk_at dksX7_leads_0 11 rfl rfl)
theorem dX7_leads_12 : decode cX7_leads 12 = .ok (.goto 4, 3) := dk_167 0 4 (dk_at dksX7_leads_0 12 rfl rfl)
theorem dX7_leads_15 : decode cX7_leads 15 = .ok (.iconst 1, 1) := dk_4 (dk_at dksX7_leads_0 15 rfl rfl)
theorem dX7_leads_16 : decode cX7_leads 16 = .ok (.putfield 189, 3) := dk_181 0 189 (dk_at dksX7_leads_0 16 rfl rfl)
theorem dX7_leads_19 : decode cX7_leads 19 = .ok (.aload_n 0, 1) := dk_42 (dk_at dksX7_leads_0 19 rfl rfl)
theorem dX7_leads_20 : decode cX7_leads 20 = .ok (.getfield 189, 3) := dk_180 0 189 (dk_at dksX7_leads_0 20 rfl rfl)
theorem dX7_leads_23 : decode cX7_leads 23 = .ok (.ifCond .le 5, 3) := dk_158 0 5 (dk_at dksX7_leads_1 0 rfl rfl)
theorem dX7_leads_26 : decode cX7_leads 26 = .ok (.iconst 0, 1) := dk_3 (dk_at dksX7_leads_1 3 rfl rfl)
theorem dX7_leads_27 : decode cX7_leads 27 = .ok (.ireturn, 1) := dk_172 (dk_at dksX7_leads_1 4 rfl rfl)
theorem dX7_leads_28 : decode cX7_leads 28 = .ok (.aload_n 0, 1) := dk_42 (dk_at dksX7_leads_1 5 rfl rfl)
theorem dX7_leads_29 : decode cX7_leads 29 = .ok (.getfield 105, 3) := dk_180 0 105 (dk_at dksX7_leads_1 6 rfl rfl)
theorem dX7_leads_32 : decode cX7_leads 32 = .ok (.iload_n 1, 1) := dk_27 (dk_at dksX7_leads_1 9 rfl rfl)
theorem dX7_leads_33 : decode cX7_leads 33 = .ok (.iaload, 1) := dk_46 (dk_at dksX7_leads_1 10 rfl rfl)
theorem dX7_leads_34 : decode cX7_leads 34 = .ok (.iconst (-1), 1) := dk_2 (dk_at dksX7_leads_1 11 rfl rfl)
theorem dX7_leads_35 : decode cX7_leads 35 = .ok (.if_icmp .eq 20, 3) := dk_159 0 20 (dk_at dksX7_leads_1 12 rfl rfl)
theorem dX7_leads_38 : decode cX7_leads 38 = .ok (.aload_n 0, 1) := dk_42 (dk_at dksX7_leads_1 15 rfl rfl)
theorem dX7_leads_39 : decode cX7_leads 39 = .ok (.aload_n 0, 1) := dk_42 (dk_at dksX7_leads_1 16 rfl rfl)
theorem dX7_leads_40 : decode cX7_leads 40 = .ok (.aload_n 0, 1) := dk_42 (dk_at dksX7_leads_1 17 rfl rfl)
theorem dX7_leads_41 : decode cX7_leads 41 = .ok (.getfield 105, 3) := dk_180 0 105 (dk_at dksX7_leads_1 18 rfl rfl)
theorem dX7_leads_44 : decode cX7_leads 44 = .ok (.iload_n 1, 1) := dk_27 (dk_at dksX7_leads_1 21 rfl rfl)
theorem dX7_leads_45 : decode cX7_leads 45 = .ok (.iaload, 1) := dk_46 (dk_at dksX7_leads_1 22 rfl rfl)
theorem dX7_leads_46 : decode cX7_leads 46 = .ok (.invokevirtual 280, 3) := dk_182 1 24 (dk_at dksX7_leads_2 0 rfl rfl)
theorem dX7_leads_49 : decode cX7_leads 49 = .ok (.invokevirtual 358, 3) := dk_182 1 102 (dk_at dksX7_leads_2 3 rfl rfl)
theorem dX7_leads_52 : decode cX7_leads 52 = .ok (.ifCond .ne 7, 3) := dk_154 0 7 (dk_at dksX7_leads_2 6 rfl rfl)
theorem dX7_leads_55 : decode cX7_leads 55 = .ok (.iconst (-1), 1) := dk_2 (dk_at dksX7_leads_2 9 rfl rfl)
theorem dX7_leads_56 : decode cX7_leads 56 = .ok (.goto 19, 3) := dk_167 0 19 (dk_at dksX7_leads_2 10 rfl rfl)
theorem dX7_leads_59 : decode cX7_leads 59 = .ok (.bipush 100, 2) := dk_16 100 (dk_at dksX7_leads_2 13 rfl rfl)
theorem dX7_leads_61 : decode cX7_leads 61 = .ok (.aload_n 0, 1) := dk_42 (dk_at dksX7_leads_2 15 rfl rfl)
theorem dX7_leads_62 : decode cX7_leads 62 = .ok (.getfield 105, 3) := dk_180 0 105 (dk_at dksX7_leads_2 16 rfl rfl)
theorem dX7_leads_65 : decode cX7_leads 65 = .ok (.iload_n 1, 1) := dk_27 (dk_at dksX7_leads_2 19 rfl rfl)
theorem dX7_leads_66 : decode cX7_leads 66 = .ok (.iaload, 1) := dk_46 (dk_at dksX7_leads_2 20 rfl rfl)
theorem dX7_leads_67 : decode cX7_leads 67 = .ok (.imul, 1) := dk_104 (dk_at dksX7_leads_2 21 rfl rfl)
theorem dX7_leads_68 : decode cX7_leads 68 = .ok (.aload_n 0, 1) := dk_42 (dk_at dksX7_leads_2 22 rfl rfl)
theorem dX7_leads_69 : decode cX7_leads 69 = .ok (.getfield 108, 3) := dk_180 0 108 (dk_at dksX7_leads_3 0 rfl rfl)
theorem dX7_leads_72 : decode cX7_leads 72 = .ok (.iload_n 1, 1) := dk_27 (dk_at dksX7_leads_3 3 rfl rfl)
theorem dX7_leads_73 : decode cX7_leads 73 = .ok (.iaload, 1) := dk_46 (dk_at dksX7_leads_3 4 rfl rfl)
theorem dX7_leads_74 : decode cX7_leads 74 = .ok (.iadd, 1) := dk_96 (dk_at dksX7_leads_3 5 rfl rfl)
theorem dX7_leads_75 : decode cX7_leads 75 = .ok (.ireturn, 1) := dk_172 (dk_at dksX7_leads_3 6 rfl rfl)
abbrev cX7_build : ByteArray := prog_17_method_79_code
def yX7_build : MethodName := ⟨RX7, "build", "(IIII)I"⟩
def dkwX7_build_16 : List UInt8 := [21, 6, 79, 42, 89, 180, 1, 105, 4, 96, 181, 1, 105, 21, 6, 172]
abbrev dktX7_build_16 : List UInt8 := dkwX7_build_16 ++ []
def dkwX7_build_15 : List UInt8 := [180, 1, 105, 29, 79, 42, 180, 0, 168, 42, 180, 1, 105, 21, 4, 79, 42, 180, 0, 171, 42, 180, 1, 105]
abbrev dktX7_build_15 : List UInt8 := dkwX7_build_15 ++ dktX7_build_16
def dkwX7_build_14 : List UInt8 := [180, 0, 159, 42, 180, 1, 105, 27, 79, 42, 180, 0, 162, 42, 180, 1, 105, 28, 79, 42, 180, 0, 165, 42]
abbrev dktX7_build_14 : List UInt8 := dkwX7_build_14 ++ dktX7_build_15
def dkwX7_build_13 : List UInt8 := [79, 42, 180, 0, 171, 21, 7, 42, 180, 0, 171, 21, 7, 4, 96, 46, 79, 132, 7, 1, 167, 255, 164, 42]
abbrev dktX7_build_13 : List UInt8 := dkwX7_build_13 ++ dktX7_build_14
def dkwX7_build_12 : List UInt8 := [180, 0, 165, 21, 7, 4, 96, 46, 79, 42, 180, 0, 168, 21, 7, 42, 180, 0, 168, 21, 7, 4, 96, 46]
abbrev dktX7_build_12 : List UInt8 := dkwX7_build_12 ++ dktX7_build_13
def dkwX7_build_11 : List UInt8 := [180, 0, 162, 21, 7, 42, 180, 0, 162, 21, 7, 4, 96, 46, 79, 42, 180, 0, 165, 21, 7, 42]
abbrev dktX7_build_11 : List UInt8 := dkwX7_build_11 ++ dktX7_build_12
def dkwX7_build_10 : List UInt8 := [180, 1, 105, 162, 0, 89, 42, 180, 0, 159, 21, 7, 42, 180, 0, 159, 21, 7, 4, 96, 46, 79, 42]
abbrev dktX7_build_10 : List UInt8 := dkwX7_build_10 ++ dktX7_build_11
def dkwX7_build_9 : List UInt8 := [180, 1, 105, 16, 20, 160, 0, 111, 42, 89, 180, 1, 105, 4, 100, 181, 1, 105, 3, 54, 7, 21, 7, 42]
abbrev dktX7_build_9 : List UInt8 := dkwX7_build_9 ++ dktX7_build_10
def dkwX7_build_8 : List UInt8 := [96, 17, 3, 232, 112, 79, 42, 27, 6, 182, 1, 66, 54, 6, 42, 180, 0, 189, 158, 0, 5, 3, 172, 42]
abbrev dktX7_build_8 : List UInt8 := dkwX7_build_8 ++ dktX7_build_9
def dkwX7_build_7 : List UInt8 := [180, 0, 37, 3, 21, 5, 16, 10, 162, 0, 7, 3, 167, 0, 8, 21, 5, 16, 10, 100, 16, 31, 104, 28]
abbrev dktX7_build_7 : List UInt8 := dkwX7_build_7 ++ dktX7_build_8
def dkwX7_build_6 : List UInt8 := [54, 5, 42, 4, 181, 0, 234, 42, 180, 0, 31, 3, 21, 4, 79, 42, 180, 0, 34, 3, 4, 79, 42]
abbrev dktX7_build_6 : List UInt8 := dkwX7_build_6 ++ dktX7_build_7
def dkwX7_build_5 : List UInt8 := [181, 1, 108, 42, 180, 0, 171, 21, 5, 46, 172, 132, 5, 1, 167, 255, 181, 42, 27, 2, 29, 182, 1, 3]
abbrev dktX7_build_5 : List UInt8 := dkwX7_build_5 ++ dktX7_build_6
def dkwX7_build_4 : List UInt8 := [46, 29, 160, 0, 33, 42, 180, 0, 168, 21, 5, 46, 21, 4, 160, 0, 21, 42, 89, 180, 1, 108, 4, 96]
abbrev dktX7_build_4 : List UInt8 := dkwX7_build_4 ++ dktX7_build_5
def dkwX7_build_3 : List UInt8 := [21, 5, 46, 27, 160, 0, 55, 42, 180, 0, 162, 21, 5, 46, 28, 160, 0, 44, 42, 180, 0, 165, 21, 5]
abbrev dktX7_build_3 : List UInt8 := dkwX7_build_3 ++ dktX7_build_4
def dkwX7_build_2 : List UInt8 := [180, 0, 189, 158, 0, 5, 3, 172, 3, 54, 5, 21, 5, 42, 180, 1, 105, 162, 0, 72, 42, 180, 0, 159]
abbrev dktX7_build_2 : List UInt8 := dkwX7_build_2 ++ dktX7_build_3
def dkwX7_build_1 : List UInt8 := [184, 0, 221, 153, 0, 11, 21, 4, 184, 0, 221, 154, 0, 7, 5, 167, 0, 4, 3, 181, 0, 189, 42]
abbrev dktX7_build_1 : List UInt8 := dkwX7_build_1 ++ dktX7_build_2
def dkwX7_build_0 : List UInt8 := [42, 42, 27, 182, 0, 250, 154, 0, 7, 4, 167, 0, 33, 28, 3, 16, 9, 184, 0, 192, 153, 0, 18, 29]
abbrev dktX7_build_0 : List UInt8 := dkwX7_build_0 ++ dktX7_build_1
theorem dksX7_build_0 : cX7_build.data.toList.drop 0 = dktX7_build_0 := by decide +kernel
theorem dksX7_build_1 : cX7_build.data.toList.drop 24 = dktX7_build_1 := dk_seg dksX7_build_0 24 rfl rfl
theorem dksX7_build_2 : cX7_build.data.toList.drop 47 = dktX7_build_2 := dk_seg dksX7_build_1 23 rfl rfl
theorem dksX7_build_3 : cX7_build.data.toList.drop 71 = dktX7_build_3 := dk_seg dksX7_build_2 24 rfl rfl
theorem dksX7_build_4 : cX7_build.data.toList.drop 95 = dktX7_build_4 := dk_seg dksX7_build_3 24 rfl rfl
theorem dksX7_build_5 : cX7_build.data.toList.drop 119 = dktX7_build_5 := dk_seg dksX7_build_4 24 rfl rfl
theorem dksX7_build_6 : cX7_build.data.toList.drop 143 = dktX7_build_6 := dk_seg dksX7_build_5 24 rfl rfl
theorem dksX7_build_7 : cX7_build.data.toList.drop 166 = dktX7_build_7 := dk_seg dksX7_build_6 23 rfl rfl
theorem dksX7_build_8 : cX7_build.data.toList.drop 190 = dktX7_build_8 := dk_seg dksX7_build_7 24 rfl rfl
theorem dksX7_build_9 : cX7_build.data.toList.drop 214 = dktX7_build_9 := dk_seg dksX7_build_8 24 rfl rfl
theorem dksX7_build_10 : cX7_build.data.toList.drop 238 = dktX7_build_10 := dk_seg dksX7_build_9 24 rfl rfl
theorem dksX7_build_11 : cX7_build.data.toList.drop 261 = dktX7_build_11 := dk_seg dksX7_build_10 23 rfl rfl
theorem dksX7_build_12 : cX7_build.data.toList.drop 283 = dktX7_build_12 := dk_seg dksX7_build_11 22 rfl rfl
theorem dksX7_build_13 : cX7_build.data.toList.drop 307 = dktX7_build_13 := dk_seg dksX7_build_12 24 rfl rfl
theorem dksX7_build_14 : cX7_build.data.toList.drop 331 = dktX7_build_14 := dk_seg dksX7_build_13 24 rfl rfl
theorem dksX7_build_15 : cX7_build.data.toList.drop 355 = dktX7_build_15 := dk_seg dksX7_build_14 24 rfl rfl
theorem dksX7_build_16 : cX7_build.data.toList.drop 379 = dktX7_build_16 := dk_seg dksX7_build_15 24 rfl rfl
theorem dX7_build_0 : decode cX7_build 0 = .ok (.aload_n 0, 1) := dk_42 (dk_at dksX7_build_0 0 rfl rfl)
theorem dX7_build_1 : decode cX7_build 1 = .ok (.aload_n 0, 1) := dk_42 (dk_at dksX7_build_0 1 rfl rfl)
theorem dX7_build_2 : decode cX7_build 2 = .ok (.iload_n 1, 1) := dk_27 (dk_at dksX7_build_0 2 rfl rfl)
theorem dX7_build_3 : decode cX7_build 3 = .ok (.invokevirtual 250, 3) := dk_182 0 250 (dk_at dksX7_build_0 3 rfl rfl)
theorem dX7_build_6 : decode cX7_build 6 = .ok (.ifCond .ne 7, 3) := dk_154 0 7 (dk_at dksX7_build_0 6 rfl rfl)
theorem dX7_build_9 : decode cX7_build 9 = .ok (.iconst 1, 1) := dk_4 (dk_at dksX7_build_0 9 rfl rfl)
theorem dX7_build_10 : decode cX7_build 10 = .ok (.goto 33, 3) := dk_167 0 33 (dk_at dksX7_build_0 10 rfl rfl)
theorem dX7_build_13 : decode cX7_build 13 = .ok (.iload_n 2, 1) := dk_28 (dk_at dksX7_build_0 13 rfl rfl)
theorem dX7_build_14 : decode cX7_build 14 = .ok (.iconst 0, 1) := dk_3 (dk_at dksX7_build_0 14 rfl rfl)
theorem dX7_build_15 : decode cX7_build 15 = .ok (.bipush 9, 2) := dk_16 9 (dk_at dksX7_build_0 15 rfl rfl)
theorem dX7_build_17 : decode cX7_build 17 = .ok (.invokestatic 192, 3) := dk_184 0 192 (dk_at dksX7_build_0 17 rfl rfl)
theorem dX7_build_20 : decode cX7_build 20 = .ok (.ifCond .eq 18, 3) := dk_153 0 18 (dk_at dksX7_build_0 20 rfl rfl)
theorem dX7_build_23 : decode cX7_build 23 = .ok (.iload_n 3, 1) := dk_29 (dk_at dksX7_build_0 23 rfl rfl)
theorem dX7_build_24 : decode cX7_build 24 = .ok (.invokestatic 221, 3) := dk_184 0 221 (dk_at dksX7_build_1 0 rfl rfl)
theorem dX7_build_27 : decode cX7_build 27 = .ok (.ifCond .eq 11, 3) := dk_153 0 11 (dk_at dksX7_build_1 3 rfl rfl)
theorem dX7_build_30 : decode cX7_build 30 = .ok (.iload 4, 2) := dk_21 4 (dk_at dksX7_build_1 6 rfl rfl)
theorem dX7_build_32 : decode cX7_build 32 = .ok (.invokestatic 221, 3) := dk_184 0 221 (dk_at dksX7_build_1 8 rfl rfl)
theorem dX7_build_35 : decode cX7_build 35 = .ok (.ifCond .ne 7, 3) := dk_154 0 7 (dk_at dksX7_build_1 11 rfl rfl)
theorem dX7_build_38 : decode cX7_build 38 = .ok (.iconst 2, 1) := dk_5 (dk_at dksX7_build_1 14 rfl rfl)
theorem dX7_build_39 : decode cX7_build 39 = .ok (.goto 4, 3) := dk_167 0 4 (dk_at dksX7_build_1 15 rfl rfl)
theorem dX7_build_42 : decode cX7_build 42 = .ok (.iconst 0, 1) := dk_3 (dk_at dksX7_build_1 18 rfl rfl)
theorem dX7_build_43 : decode cX7_build 43 = .ok (.putfield 189, 3) := dk_181 0 189 (dk_at dksX7_build_1 19 rfl rfl)
theorem dX7_build_46 : decode cX7_build 46 = .ok (.aload_n 0, 1) := dk_42 (dk_at dksX7_build_1 22 rfl rfl)
theorem dX7_build_47 : decode cX7_build 47 = .ok (.getfield 189, 3) := dk_180 0 189 (dk_at dksX7_build_2 0 rfl rfl)
theorem dX7_build_50 : decode cX7_build 50 = .ok (.ifCond .le 5, 3) := dk_158 0 5 (dk_at dksX7_build_2 3 rfl rfl)
theorem dX7_build_53 : decode cX7_build 53 = .ok (.iconst 0, 1) := dk_3 (dk_at dksX7_build_2 6 rfl rfl)
theorem dX7_build_54 : decode cX7_build 54 = .ok (.ireturn, 1) := dk_172 (dk_at dksX7_build_2 7 rfl rfl)
theorem dX7_build_55 : decode cX7_build 55 = .ok (.iconst 0, 1) := dk_3 (dk_at dksX7_build_2 8 rfl rfl)
theorem dX7_build_56 : decode cX7_build 56 = .ok (.istore 5, 2) := dk_54 5 (dk_at dksX7_build_2 9 rfl rfl)
theorem dX7_build_58 : decode cX7_build 58 = .ok (.iload 5, 2) := dk_21 5 (dk_at dksX7_build_2 11 rfl rfl)
theorem dX7_build_60 : decode cX7_build 60 = .ok (.aload_n 0, 1) := dk_42 (dk_at dksX7_build_2 13 rfl rfl)
theorem dX7_build_61 : decode cX7_build 61 = .ok (.getfield 361, 3) := dk_180 1 105 (dk_at dksX7_build_2 14 rfl rfl)
theorem dX7_build_64 : decode cX7_build 64 = .ok (.if_icmp .ge 72, 3) := dk_162 0 72 (dk_at dksX7_build_2 17 rfl rfl)
theorem dX7_build_67 : decode cX7_build 67 = .ok (.aload_n 0, 1) := dk_42 (dk_at dksX7_build_2 20 rfl rfl)
theorem dX7_build_68 : decode cX7_build 68 = .ok (.getfield 159, 3) := dk_180 0 159 (dk_at dksX7_build_2 21 rfl rfl)
theorem dX7_build_71 : decode cX7_build 71 = .ok (.iload 5, 2) := dk_21 5 (dk_at dksX7_build_3 0 rfl rfl)
theorem dX7_build_73 : decode cX7_build 73 = .ok (.iaload, 1) := dk_46 (dk_at dksX7_build_3 2 rfl rfl)
theorem dX7_build_74 : decode cX7_build 74 = .ok (.iload_n 1, 1) := dk_27 (dk_at dksX7_build_3 3 rfl rfl)
theorem dX7_build_75 : decode cX7_build 75 = .ok (.if_icmp .ne 55, 3) := dk_160 0 55 (dk_at dksX7_build_3 4 rfl rfl)
theorem dX7_build_78 : decode cX7_build 78 = .ok (.aload_n 0, 1) := dk_42 (dk_at dksX7_build_3 7 rfl rfl)
theorem dX7_build_79 : decode cX7_build 79 = .ok (.getfield 162, 3) := dk_180 0 162 (dk_at dksX7_build_3 8 rfl rfl)
theorem dX7_build_82 : decode cX7_build 82 = .ok (.iload 5, 2) := dk_21 5 (dk_at dksX7_build_3 11 rfl rfl)
theorem dX7_build_84 : decode cX7_build 84 = .ok (.iaload, 1) := dk_46 (dk_at dksX7_build_3 13 rfl rfl)
theorem dX7_build_85 : decode cX7_build 85 = .ok (.iload_n 2, 1) := dk_28 (dk_at dksX7_build_3 14 rfl rfl)
theorem dX7_build_86 : decode cX7_build 86 = .ok (.if_icmp .ne 44, 3) := dk_160 0 44 (dk_at dksX7_build_3 15 rfl rfl)
theorem dX7_build_89 : decode cX7_build 89 = .ok (.aload_n 0, 1) := dk_42 (dk_at dksX7_build_3 18 rfl rfl)
theorem dX7_build_90 : decode cX7_build 90 = .ok (.getfield 165, 3) := dk_180 0 165 (dk_at dksX7_build_3 19 rfl rfl)
theorem dX7_build_93 : decode cX7_build 93 = .ok (.iload 5, 2) := dk_21 5 (dk_at dksX7_build_3 22 rfl rfl)
theorem dX7_build_95 : decode cX7_build 95 = .ok (.iaload, 1) := dk_46 (dk_at dksX7_build_4 0 rfl rfl)
theorem dX7_build_96 : decode cX7_build 96 = .ok (.iload_n 3, 1) := dk_29 (dk_at dksX7_build_4 1 rfl rfl)
theorem dX7_build_97 : decode cX7_build 97 = .ok (.if_icmp .ne 33, 3) := dk_160 0 33 (dk_at dksX7_build_4 2 rfl rfl)
theorem dX7_build_100 : decode cX7_build 100 = .ok (.aload_n 0, 1) := dk_42 (dk_at dksX7_build_4 5 rfl rfl)
theorem dX7_build_101 : decode cX7_build 101 = .ok (.getfield 168, 3) := dk_180 0 168 (dk_at dksX7_build_4 6 rfl rfl)
theorem dX7_build_104 : decode cX7_build 104 = .ok (.iload 5, 2) := dk_21 5 (dk_at dksX7_build_4 9 rfl rfl)
theorem dX7_build_106 : decode cX7_build 106 = .ok (.iaload, 1) := dk_46 (dk_at dksX7_build_4 11 rfl rfl)
theorem dX7_build_107 : decode cX7_build 107 = .ok (.iload 4, 2) := dk_21 4 (dk_at dksX7_build_4 12 rfl rfl)
theorem dX7_build_109 : decode cX7_build 109 = .ok (.if_icmp .ne 21, 3) := dk_160 0 21 (dk_at dksX7_build_4 14 rfl rfl)
theorem dX7_build_112 : decode cX7_build 112 = .ok (.aload_n 0, 1) := dk_42 (dk_at dksX7_build_4 17 rfl rfl)
theorem dX7_build_113 : decode cX7_build 113 = .ok (.dup, 1) := dk_89 (dk_at dksX7_build_4 18 rfl rfl)
theorem dX7_build_114 : decode cX7_build 114 = .ok (.getfield 364, 3) := dk_180 1 108 (dk_at dksX7_build_4 19 rfl rfl)
theorem dX7_build_117 : decode cX7_build 117 = .ok (.iconst 1, 1) := dk_4 (dk_at dksX7_build_4 22 rfl rfl)
theorem dX7_build_118 : decode cX7_build 118 = .ok (.iadd, 1) := dk_96 (dk_at dksX7_build_4 23 rfl rfl)
theorem dX7_build_119 : decode cX7_build 119 = .ok (.putfield 364, 3) := dk_181 1 108 (dk_at dksX7_build_5 0 rfl rfl)
theorem dX7_build_122 : decode cX7_build 122 = .ok (.aload_n 0, 1) := dk_42 (dk_at dksX7_build_5 3 rfl rfl)
theorem dX7_build_123 : decode cX7_build 123 = .ok (.getfield 171, 3) := dk_180 0 171 (dk_at dksX7_build_5 4 rfl rfl)
theorem dX7_build_126 : decode cX7_build 126 = .ok (.iload 5, 2) := dk_21 5 (dk_at dksX7_build_5 7 rfl rfl)
theorem dX7_build_128 : decode cX7_build 128 = .ok (.iaload, 1) := dk_46 (dk_at dksX7_build_5 9 rfl rfl)
theorem dX7_build_129 : decode cX7_build 129 = .ok (.ireturn, 1) := dk_172 (dk_at dksX7_build_5 10 rfl rfl)
theorem dX7_build_130 : decode cX7_build 130 = .ok (.iinc 5 1, 3) := dk_132 5 1 (dk_at dksX7_build_5 11 rfl rfl)
theorem dX7_build_133 : decode cX7_build 133 = .ok (.goto (-75), 3) := dk_167 255 181 (dk_at dksX7_build_5 14 rfl rfl)
theorem dX7_build_136 : decode cX7_build 136 = .ok (.aload_n 0, 1) := dk_42 (dk_at dksX7_build_5 17 rfl rfl)
theorem dX7_build_137 : decode cX7_build 137 = .ok (.iload_n 1, 1) := dk_27 (dk_at dksX7_build_5 18 rfl rfl)
theorem dX7_build_138 : decode cX7_build 138 = .ok (.iconst (-1), 1) := dk_2 (dk_at dksX7_build_5 19 rfl rfl)
theorem dX7_build_139 : decode cX7_build 139 = .ok (.iload_n 3, 1) := dk_29 (dk_at dksX7_build_5 20 rfl rfl)
theorem dX7_build_140 : decode cX7_build 140 = .ok (.invokevirtual 259, 3) := dk_182 1 3 (dk_at dksX7_build_5 21 rfl rfl)
theorem dX7_build_143 : decode cX7_build 143 = .ok (.istore 5, 2) := dk_54 5 (dk_at dksX7_build_6 0 rfl rfl)
theorem dX7_build_145 : decode cX7_build 145 = .ok (.aload_n 0, 1) := dk_42 (dk_at dksX7_build_6 2 rfl rfl)
theorem dX7_build_146 : decode cX7_build 146 = .ok (.iconst 1, 1) := dk_4 (dk_at dksX7_build_6 3 rfl rfl)
theorem dX7_build_147 : decode cX7_build 147 = .ok (.putfield 234, 3) := dk_181 0 234 (dk_at dksX7_build_6 4 rfl rfl)
theorem dX7_build_150 : decode cX7_build 150 = .ok (.aload_n 0, 1) := dk_42 (dk_at dksX7_build_6 7 rfl rfl)
theorem dX7_build_151 : decode cX7_build 151 = .ok (.getfield 31, 3) := dk_180 0 31 (dk_at dksX7_build_6 8 rfl rfl)
theorem dX7_build_154 : decode cX7_build 154 = .ok (.iconst 0, 1) := dk_3 (dk_at dksX7_build_6 11 rfl rfl)
theorem dX7_build_155 : decode cX7_build 155 = .ok (.iload 4, 2) := dk_21 4 (dk_at dksX7_build_6 12 rfl rfl)
theorem dX7_build_157 : decode cX7_build 157 = .ok (.iastore, 1) := dk_79 (dk_at dksX7_build_6 14 rfl rfl)
theorem dX7_build_158 : decode cX7_build 158 = .ok (.aload_n 0, 1) := dk_42 (dk_at dksX7_build_6 15 rfl rfl)
theorem dX7_build_159 : decode cX7_build 159 = .ok (.getfield 34, 3) := dk_180 0 34 (dk_at dksX7_build_6 16 rfl rfl)
theorem dX7_build_162 : decode cX7_build 162 = .ok (.iconst 0, 1) := dk_3 (dk_at dksX7_build_6 19 rfl rfl)
theorem dX7_build_163 : decode cX7_build 163 = .ok (.iconst 1, 1) := dk_4 (dk_at dksX7_build_6 20 rfl rfl)
theorem dX7_build_164 : decode cX7_build 164 = .ok (.iastore, 1) := dk_79 (dk_at dksX7_build_6 21 rfl rfl)
theorem dX7_build_165 : decode cX7_build 165 = .ok (.aload_n 0, 1) := dk_42 (dk_at dksX7_build_6 22 rfl rfl)
theorem dX7_build_166 : decode cX7_build 166 = .ok (.getfield 37, 3) := dk_180 0 37 (dk_at dksX7_build_7 0 rfl rfl)
theorem dX7_build_169 : decode cX7_build 169 = .ok (.iconst 0, 1) := dk_3 (dk_at dksX7_build_7 3 rfl rfl)
theorem dX7_build_170 : decode cX7_build 170 = .ok (.iload 5, 2) := dk_21 5 (dk_at dksX7_build_7 4 rfl rfl)
theorem dX7_build_172 : decode cX7_build 172 = .ok (.bipush 10, 2) := dk_16 10 (dk_at dksX7_build_7 6 rfl rfl)
theorem dX7_build_174 : decode cX7_build 174 = .ok (.if_icmp .ge 7, 3) := dk_162 0 7 (dk_at dksX7_build_7 8 rfl rfl)
theorem dX7_build_177 : decode cX7_build 177 = .ok (.iconst 0, 1) := dk_3 (dk_at dksX7_build_7 11 rfl rfl)
theorem dX7_build_178 : decode cX7_build 178 = .ok (.goto 8, 3) := dk_167 0 8 (dk_at dksX7_build_7 12 rfl rfl)
theorem dX7_build_181 : decode cX7_build 181 = .ok (.iload 5, 2) := dk_21 5 (dk_at dksX7_build_7 15 rfl rfl)
theorem dX7_build_183 : decode cX7_build 183 = .ok (.bipush 10, 2) := dk_16 10 (dk_at dksX7_build_7 17 rfl rfl)
theorem dX7_build_185 : decode cX7_build 185 = .ok (.isub, 1) := dk_100 (dk_at dksX7_build_7 19 rfl rfl)
theorem dX7_build_186 : decode cX7_build 186 = .ok (.bipush 31, 2) := dk_16 31 (dk_at dksX7_build_7 20 rfl rfl)
theorem dX7_build_188 : decode cX7_build 188 = .ok (.imul, 1) := dk_104 (dk_at dksX7_build_7 22 rfl rfl)
theorem dX7_build_189 : decode cX7_build 189 = .ok (.iload_n 2, 1) := dk_28 (dk_at dksX7_build_7 23 rfl rfl)
theorem dX7_build_190 : decode cX7_build 190 = .ok (.iadd, 1) := dk_96 (dk_at dksX7_build_8 0 rfl rfl)
theorem dX7_build_191 : decode cX7_build 191 = .ok (.sipush 1000, 3) := dk_17 3 232 (dk_at dksX7_build_8 1 rfl rfl)
theorem dX7_build_194 : decode cX7_build 194 = .ok (.irem, 1) := dk_112 (dk_at dksX7_build_8 4 rfl rfl)
theorem dX7_build_195 : decode cX7_build 195 = .ok (.iastore, 1) := dk_79 (dk_at dksX7_build_8 5 rfl rfl)
theorem dX7_build_196 : decode cX7_build 196 = .ok (.aload_n 0, 1) := dk_42 (dk_at dksX7_build_8 6 rfl rfl)
theorem dX7_build_197 : decode cX7_build 197 = .ok (.iload_n 1, 1) := dk_27 (dk_at dksX7_build_8 7 rfl rfl)
theorem dX7_build_198 : decode cX7_build 198 = .ok (.iconst 3, 1) := dk_6 (dk_at dksX7_build_8 8 rfl rfl)
theorem dX7_build_199 : decode cX7_build 199 = .ok (.invokevirtual 322, 3) := dk_182 1 66 (dk_at dksX7_build_8 9 rfl rfl)
theorem dX7_build_202 : decode cX7_build 202 = .ok (.istore 6, 2) := dk_54 6 (dk_at dksX7_build_8 12 rfl rfl)
theorem dX7_build_204 : decode cX7_build 204 = .ok (.aload_n 0, 1) := dk_42 (dk_at dksX7_build_8 14 rfl rfl)
theorem dX7_build_205 : decode cX7_build 205 = .ok (.getfield 189, 3) := dk_180 0 189 (dk_at dksX7_build_8 15 rfl rfl)
theorem dX7_build_208 : decode cX7_build 208 = .ok (.ifCond .le 5, 3) := dk_158 0 5 (dk_at dksX7_build_8 18 rfl rfl)
theorem dX7_build_211 : decode cX7_build 211 = .ok (.iconst 0, 1) := dk_3 (dk_at dksX7_build_8 21 rfl rfl)
theorem dX7_build_212 : decode cX7_build 212 = .ok (.ireturn, 1) := dk_172 (dk_at dksX7_build_8 22 rfl rfl)
theorem dX7_build_213 : decode cX7_build 213 = .ok (.aload_n 0, 1) := dk_42 (dk_at dksX7_build_8 23 rfl rfl)
theorem dX7_build_214 : decode cX7_build 214 = .ok (.getfield 361, 3) := dk_180 1 105 (dk_at dksX7_build_9 0 rfl rfl)
theorem dX7_build_217 : decode cX7_build 217 = .ok (.bipush 20, 2) := dk_16 20 (dk_at dksX7_build_9 3 rfl rfl)
theorem dX7_build_219 : decode cX7_build 219 = .ok (.if_icmp .ne 111, 3) := dk_160 0 111 (dk_at dksX7_build_9 5 rfl rfl)
theorem dX7_build_222 : decode cX7_build 222 = .ok (.aload_n 0, 1) := dk_42 (dk_at dksX7_build_9 8 rfl rfl)
theorem dX7_build_223 : decode cX7_build 223 = .ok (.dup, 1) := dk_89 (dk_at dksX7_build_9 9 rfl rfl)
theorem dX7_build_224 : decode cX7_build 224 = .ok (.getfield 361, 3) := dk_180 1 105 (dk_at dksX7_build_9 10 rfl rfl)
theorem dX7_build_227 : decode cX7_build 227 = .ok (.iconst 1, 1) := dk_4 (dk_at dksX7_build_9 13 rfl rfl)
theorem dX7_build_228 : decode cX7_build 228 = .ok (.isub, 1) := dk_100 (dk_at dksX7_build_9 14 rfl rfl)
theorem dX7_build_229 : decode cX7_build 229 = .ok (.putfield 361, 3) := dk_181 1 105 (dk_at dksX7_build_9 15 rfl rfl)
theorem dX7_build_232 : decode cX7_build 232 = .ok (.iconst 0, 1) := dk_3 (dk_at dksX7_build_9 18 rfl rfl)
theorem dX7_build_233 : decode cX7_build 233 = .ok (.istore 7, 2) := dk_54 7 (dk_at dksX7_build_9 19 rfl rfl)
theorem dX7_build_235 : decode cX7_build 235 = .ok (.iload 7, 2) := dk_21 7 (dk_at dksX7_build_9 21 rfl rfl)
theorem dX7_build_237 : decode cX7_build 237 = .ok (.aload_n 0, 1) := dk_42 (dk_at dksX7_build_9 23 rfl rfl)
theorem dX7_build_238 : decode cX7_build 238 = .ok (.getfield 361, 3) := dk_180 1 105 (dk_at dksX7_build_10 0 rfl rfl)
theorem dX7_build_241 : decode cX7_build 241 = .ok (.if_icmp .ge 89, 3) := dk_162 0 89 (dk_at dksX7_build_10 3 rfl rfl)
theorem dX7_build_244 : decode cX7_build 244 = .ok (.aload_n 0, 1) := dk_42 (dk_at dksX7_build_10 6 rfl rfl)
theorem dX7_build_245 : decode cX7_build 245 = .ok (.getfield 159, 3) := dk_180 0 159 (dk_at dksX7_build_10 7 rfl rfl)
theorem dX7_build_248 : decode cX7_build 248 = .ok (.iload 7, 2) := dk_21 7 (dk_at dksX7_build_10 10 rfl rfl)
theorem dX7_build_250 : decode cX7_build 250 = .ok (.aload_n 0, 1) := dk_42 (dk_at dksX7_build_10 12 rfl rfl)
theorem dX7_build_251 : decode cX7_build 251 = .ok (.getfield 159, 3) := dk_180 0 159 (dk_at dksX7_build_10 13 rfl rfl)
theorem dX7_build_254 : decode cX7_build 254 = .ok (.iload 7, 2) := dk_21 7 (dk_at dksX7_build_10 16 rfl rfl)
theorem dX7_build_256 : decode cX7_build 256 = .ok (.iconst 1, 1) := dk_4 (dk_at dksX7_build_10 18 rfl rfl)
theorem dX7_build_257 : decode cX7_build 257 = .ok (.iadd, 1) := dk_96 (dk_at dksX7_build_10 19 rfl rfl)
theorem dX7_build_258 : decode cX7_build 258 = .ok (.iaload, 1) := dk_46 (dk_at dksX7_build_10 20 rfl rfl)
theorem dX7_build_259 : decode cX7_build 259 = .ok (.iastore, 1) := dk_79 (dk_at dksX7_build_10 21 rfl rfl)
theorem dX7_build_260 : decode cX7_build 260 = .ok (.aload_n 0, 1) := dk_42 (dk_at dksX7_build_10 22 rfl rfl)
theorem dX7_build_261 : decode cX7_build 261 = .ok (.getfield 162, 3) := dk_180 0 162 (dk_at dksX7_build_11 0 rfl rfl)
theorem dX7_build_264 : decode cX7_build 264 = .ok (.iload 7, 2) := dk_21 7 (dk_at dksX7_build_11 3 rfl rfl)
theorem dX7_build_266 : decode cX7_build 266 = .ok (.aload_n 0, 1) := dk_42 (dk_at dksX7_build_11 5 rfl rfl)
theorem dX7_build_267 : decode cX7_build 267 = .ok (.getfield 162, 3) := dk_180 0 162 (dk_at dksX7_build_11 6 rfl rfl)
theorem dX7_build_270 : decode cX7_build 270 = .ok (.iload 7, 2) := dk_21 7 (dk_at dksX7_build_11 9 rfl rfl)
theorem dX7_build_272 : decode cX7_build 272 = .ok (.iconst 1, 1) := dk_4 (dk_at dksX7_build_11 11 rfl rfl)
theorem dX7_build_273 : decode cX7_build 273 = .ok (.iadd, 1) := dk_96 (dk_at dksX7_build_11 12 rfl rfl)
theorem dX7_build_274 : decode cX7_build 274 = .ok (.iaload, 1) := dk_46 (dk_at dksX7_build_11 13 rfl rfl)
theorem dX7_build_275 : decode cX7_build 275 = .ok (.iastore, 1) := dk_79 (dk_at dksX7_build_11 14 rfl rfl)
theorem dX7_build_276 : decode cX7_build 276 = .ok (.aload_n 0, 1) := dk_42 (dk_at dksX7_build_11 15 rfl rfl)
theorem dX7_build_277 : decode cX7_build 277 = .ok (.getfield 165, 3) := dk_180 0 165 (dk_at dksX7_build_11 16 rfl rfl)
theorem dX7_build_280 : decode cX7_build 280 = .ok (.iload 7, 2) := dk_21 7 (dk_at dksX7_build_11 19 rfl rfl)
theorem dX7_build_282 : decode cX7_build 282 = .ok (.aload_n 0, 1) := dk_42 (dk_at dksX7_build_11 21 rfl rfl)
theorem dX7_build_283 : decode cX7_build 283 = .ok (.getfield 165, 3) := dk_180 0 165 (dk_at dksX7_build_12 0 rfl rfl)
theorem dX7_build_286 : decode cX7_build 286 = .ok (.iload 7, 2) := dk_21 7 (dk_at dksX7_build_12 3 rfl rfl)
theorem dX7_build_288 : decode cX7_build 288 = .ok (.iconst 1, 1) := dk_4 (dk_at dksX7_build_12 5 rfl rfl)
theorem dX7_build_289 : decode cX7_build 289 = .ok (.iadd, 1) := dk_96 (dk_at dksX7_build_12 6 rfl rfl)
theorem dX7_build_290 : decode cX7_build 290 = .ok (.iaload, 1) := dk_46 (dk_at dksX7_build_12 7 rfl rfl)
theorem dX7_build_291 : decode cX7_build 291 = .ok (.iastore, 1) := dk_79 (dk_at dksX7_build_12 8 rfl rfl)
theorem dX7_build_292 : decode cX7_build 292 = .ok (.aload_n 0, 1) := dk_42 (dk_at dksX7_build_12 9 rfl rfl)
theorem dX7_build_293 : decode cX7_build 293 = .ok (.getfield 168, 3) := dk_180 0 168 (dk_at dksX7_build_12 10 rfl rfl)
theorem dX7_build_296 : decode cX7_build 296 = .ok (.iload 7, 2) := dk_21 7 (dk_at dksX7_build_12 13 rfl rfl)
theorem dX7_build_298 : decode cX7_build 298 = .ok (.aload_n 0, 1) := dk_42 (dk_at dksX7_build_12 15 rfl rfl)
theorem dX7_build_299 : decode cX7_build 299 = .ok (.getfield 168, 3) := dk_180 0 168 (dk_at dksX7_build_12 16 rfl rfl)
theorem dX7_build_302 : decode cX7_build 302 = .ok (.iload 7, 2) := dk_21 7 (dk_at dksX7_build_12 19 rfl rfl)
theorem dX7_build_304 : decode cX7_build 304 = .ok (.iconst 1, 1) := dk_4 (dk_at dksX7_build_12 21 rfl rfl)
theorem dX7_build_305 : decode cX7_build 305 = .ok (.iadd, 1) := dk_96 (dk_at dksX7_build_12 22 rfl rfl)
theorem dX7_build_306 : decode cX7_build 306 = .ok (.iaload, 1) := dk_46 (dk_at dksX7_build_12 23 rfl rfl)
theorem dX7_build_307 : decode cX7_build 307 = .ok (.iastore, 1) := dk_79 (dk_at dksX7_build_13 0 rfl rfl)
theorem dX7_build_308 : decode cX7_build 308 = .ok (.aload_n 0, 1) := dk_42 (dk_at dksX7_build_13 1 rfl rfl)
theorem dX7_build_309 : decode cX7_build 309 = .ok (.getfield 171, 3) := dk_180 0 171 (dk_at dksX7_build_13 2 rfl rfl)
theorem dX7_build_312 : decode cX7_build 312 = .ok (.iload 7, 2) := dk_21 7 (dk_at dksX7_build_13 5 rfl rfl)
theorem dX7_build_314 : decode cX7_build 314 = .ok (.aload_n 0, 1) := dk_42 (dk_at dksX7_build_13 7 rfl rfl)
theorem dX7_build_315 : decode cX7_build 315 = .ok (.getfield 171, 3) := dk_180 0 171 (dk_at dksX7_build_13 8 rfl rfl)
theorem dX7_build_318 : decode cX7_build 318 = .ok (.iload 7, 2) := dk_21 7 (dk_at dksX7_build_13 11 rfl rfl)
theorem dX7_build_320 : decode cX7_build 320 = .ok (.iconst 1, 1) := dk_4 (dk_at dksX7_build_13 13 rfl rfl)
theorem dX7_build_321 : decode cX7_build 321 = .ok (.iadd, 1) := dk_96 (dk_at dksX7_build_13 14 rfl rfl)
theorem dX7_build_322 : decode cX7_build 322 = .ok (.iaload, 1) := dk_46 (dk_at dksX7_build_13 15 rfl rfl)
theorem dX7_build_323 : decode cX7_build 323 = .ok (.iastore, 1) := dk_79 (dk_at dksX7_build_13 16 rfl rfl)
theorem dX7_build_324 : decode cX7_build 324 = .ok (.iinc 7 1, 3) := dk_132 7 1 (dk_at dksX7_build_13 17 rfl rfl)
theorem dX7_build_327 : decode cX7_build 327 = .ok (.goto (-92), 3) := dk_167 255 164 (dk_at dksX7_build_13 20 rfl rfl)
theorem dX7_build_330 : decode cX7_build 330 = .ok (.aload_n 0, 1) := dk_42 (dk_at dksX7_build_13 23 rfl rfl)
theorem dX7_build_331 : decode cX7_build 331 = .ok (.getfield 159, 3) := dk_180 0 159 (dk_at dksX7_build_14 0 rfl rfl)
theorem dX7_build_334 : decode cX7_build 334 = .ok (.aload_n 0, 1) := dk_42 (dk_at dksX7_build_14 3 rfl rfl)
theorem dX7_build_335 : decode cX7_build 335 = .ok (.getfield 361, 3) := dk_180 1 105 (dk_at dksX7_build_14 4 rfl rfl)
theorem dX7_build_338 : decode cX7_build 338 = .ok (.iload_n 1, 1) := dk_27 (dk_at dksX7_build_14 7 rfl rfl)
theorem dX7_build_339 : decode cX7_build 339 = .ok (.iastore, 1) := dk_79 (dk_at dksX7_build_14 8 rfl rfl)
theorem dX7_build_340 : decode cX7_build 340 = .ok (.aload_n 0, 1) := dk_42 (dk_at dksX7_build_14 9 rfl rfl)
theorem dX7_build_341 : decode cX7_build 341 = .ok (.getfield 162, 3) := dk_180 0 162 (dk_at dksX7_build_14 10 rfl rfl)
theorem dX7_build_344 : decode cX7_build 344 = .ok (.aload_n 0, 1) := dk_42 (dk_at dksX7_build_14 13 rfl rfl)
theorem dX7_build_345 : decode cX7_build 345 = .ok (.getfield 361, 3) := dk_180 1 105 (dk_at dksX7_build_14 14 rfl rfl)
theorem dX7_build_348 : decode cX7_build 348 = .ok (.iload_n 2, 1) := dk_28 (dk_at dksX7_build_14 17 rfl rfl)
theorem dX7_build_349 : decode cX7_build 349 = .ok (.iastore, 1) := dk_79 (dk_at dksX7_build_14 18 rfl rfl)
theorem dX7_build_350 : decode cX7_build 350 = .ok (.aload_n 0, 1) := dk_42 (dk_at dksX7_build_14 19 rfl rfl)
theorem dX7_build_351 : decode cX7_build 351 = .ok (.getfield 165, 3) := dk_180 0 165 (dk_at dksX7_build_14 20 rfl rfl)
theorem dX7_build_354 : decode cX7_build 354 = .ok (.aload_n 0, 1) := dk_42 (dk_at dksX7_build_14 23 rfl rfl)
theorem dX7_build_355 : decode cX7_build 355 = .ok (.getfield 361, 3) := dk_180 1 105 (dk_at dksX7_build_15 0 rfl rfl)
theorem dX7_build_358 : decode cX7_build 358 = .ok (.iload_n 3, 1) := dk_29 (dk_at dksX7_build_15 3 rfl rfl)
theorem dX7_build_359 : decode cX7_build 359 = .ok (.iastore, 1) := dk_79 (dk_at dksX7_build_15 4 rfl rfl)
theorem dX7_build_360 : decode cX7_build 360 = .ok (.aload_n 0, 1) := dk_42 (dk_at dksX7_build_15 5 rfl rfl)
theorem dX7_build_361 : decode cX7_build 361 = .ok (.getfield 168, 3) := dk_180 0 168 (dk_at dksX7_build_15 6 rfl rfl)
theorem dX7_build_364 : decode cX7_build 364 = .ok (.aload_n 0, 1) := dk_42 (dk_at dksX7_build_15 9 rfl rfl)
theorem dX7_build_365 : decode cX7_build 365 = .ok (.getfield 361, 3) := dk_180 1 105 (dk_at dksX7_build_15 10 rfl rfl)
theorem dX7_build_368 : decode cX7_build 368 = .ok (.iload 4, 2) := dk_21 4 (dk_at dksX7_build_15 13 rfl rfl)
theorem dX7_build_370 : decode cX7_build 370 = .ok (.iastore, 1) := dk_79 (dk_at dksX7_build_15 15 rfl rfl)
theorem dX7_build_371 : decode cX7_build 371 = .ok (.aload_n 0, 1) := dk_42 (dk_at dksX7_build_15 16 rfl rfl)
theorem dX7_build_372 : decode cX7_build 372 = .ok (.getfield 171, 3) := dk_180 0 171 (dk_at dksX7_build_15 17 rfl rfl)
theorem dX7_build_375 : decode cX7_build 375 = .ok (.aload_n 0, 1) := dk_42 (dk_at dksX7_build_15 20 rfl rfl)
theorem dX7_build_376 : decode cX7_build 376 = .ok (.getfield 361, 3) := dk_180 1 105 (dk_at dksX7_build_15 21 rfl rfl)
theorem dX7_build_379 : decode cX7_build 379 = .ok (.iload 6, 2) := dk_21 6 (dk_at dksX7_build_16 0 rfl rfl)
theorem dX7_build_381 : decode cX7_build 381 = .ok (.iastore, 1) := dk_79 (dk_at dksX7_build_16 2 rfl rfl)
theorem dX7_build_382 : decode cX7_build 382 = .ok (.aload_n 0, 1) := dk_42 (dk_at dksX7_build_16 3 rfl rfl)
theorem dX7_build_383 : decode cX7_build 383 = .ok (.dup, 1) := dk_89 (dk_at dksX7_build_16 4 rfl rfl)
theorem dX7_build_384 : decode cX7_build 384 = .ok (.getfield 361, 3) := dk_180 1 105 (dk_at dksX7_build_16 5 rfl rfl)
theorem dX7_build_387 : decode cX7_build 387 = .ok (.iconst 1, 1) := dk_4 (dk_at dksX7_build_16 8 rfl rfl)
theorem dX7_build_388 : decode cX7_build 388 = .ok (.iadd, 1) := dk_96 (dk_at dksX7_build_16 9 rfl rfl)
theorem dX7_build_389 : decode cX7_build 389 = .ok (.putfield 361, 3) := dk_181 1 105 (dk_at dksX7_build_16 10 rfl rfl)
theorem dX7_build_392 : decode cX7_build 392 = .ok (.iload 6, 2) := dk_21 6 (dk_at dksX7_build_16 13 rfl rfl)
theorem dX7_build_394 : decode cX7_build 394 = .ok (.ireturn, 1) := dk_172 (dk_at dksX7_build_16 15 rfl rfl)
abbrev cX7_hits : ByteArray := prog_17_method_80_code
def yX7_hits : MethodName := ⟨RX7, "hits", "()I"⟩
def dkwX7_hits_0 : List UInt8 := [42, 3, 181, 0, 189, 42, 180, 1, 108, 172]
abbrev dktX7_hits_0 : List UInt8 := dkwX7_hits_0 ++ []
theorem dksX7_hits_0 : cX7_hits.data.toList.drop 0 = dktX7_hits_0 := by decide +kernel
theorem dX7_hits_0 : decode cX7_hits 0 = .ok (.aload_n 0, 1) := dk_42 (dk_at dksX7_hits_0 0 rfl rfl)
theorem dX7_hits_1 : decode cX7_hits 1 = .ok (.iconst 0, 1) := dk_3 (dk_at dksX7_hits_0 1 rfl rfl)
theorem dX7_hits_2 : decode cX7_hits 2 = .ok (.putfield 189, 3) := dk_181 0 189 (dk_at dksX7_hits_0 2 rfl rfl)
theorem dX7_hits_5 : decode cX7_hits 5 = .ok (.aload_n 0, 1) := dk_42 (dk_at dksX7_hits_0 5 rfl rfl)
theorem dX7_hits_6 : decode cX7_hits 6 = .ok (.getfield 364, 3) := dk_180 1 108 (dk_at dksX7_hits_0 6 rfl rfl)
theorem dX7_hits_9 : decode cX7_hits 9 = .ok (.ireturn, 1) := dk_172 (dk_at dksX7_hits_0 9 rfl rfl)
abbrev cX7_push : ByteArray := prog_17_method_82_code
def yX7_push : MethodName := ⟨RX7, "push", "(I)I"⟩
def dkwX7_push_3 : List UInt8 := [128, 181, 1, 111, 42, 89, 180, 1, 117, 4, 27, 120, 128, 181, 1, 117, 28, 172]
abbrev dktX7_push_3 : List UInt8 := dkwX7_push_3 ++ []
def dkwX7_push_2 : List UInt8 := [182, 1, 12, 42, 180, 1, 111, 2, 130, 126, 184, 1, 114, 61, 42, 89, 180, 1, 111, 42, 27, 182, 1, 12]
abbrev dktX7_push_2 : List UInt8 := dkwX7_push_2 ++ dktX7_push_3
def dkwX7_push_1 : List UInt8 := [126, 153, 0, 7, 5, 167, 0, 4, 3, 181, 0, 189, 42, 180, 0, 189, 158, 0, 5, 3, 172, 42, 27]
abbrev dktX7_push_1 : List UInt8 := dkwX7_push_1 ++ dktX7_push_2
def dkwX7_push_0 : List UInt8 := [42, 42, 27, 182, 0, 250, 154, 0, 7, 4, 167, 0, 23, 42, 27, 182, 1, 12, 42, 180, 0, 241, 2, 130]
abbrev dktX7_push_0 : List UInt8 := dkwX7_push_0 ++ dktX7_push_1
theorem dksX7_push_0 : cX7_push.data.toList.drop 0 = dktX7_push_0 := by decide +kernel
theorem dksX7_push_1 : cX7_push.data.toList.drop 24 = dktX7_push_1 := dk_seg dksX7_push_0 24 rfl rfl
theorem dksX7_push_2 : cX7_push.data.toList.drop 47 = dktX7_push_2 := dk_seg dksX7_push_1 23 rfl rfl
theorem dksX7_push_3 : cX7_push.data.toList.drop 71 = dktX7_push_3 := dk_seg dksX7_push_2 24 rfl rfl
theorem dX7_push_0 : decode cX7_push 0 = .ok (.aload_n 0, 1) := dk_42 (dk_at dksX7_push_0 0 rfl rfl)
theorem dX7_push_1 : decode cX7_push 1 = .ok (.aload_n 0, 1) := dk_42 (dk_at dksX7_push_0 1 rfl rfl)
theorem dX7_push_2 : decode cX7_push 2 = .ok (.iload_n 1, 1) := dk_27 (dk_at dksX7_push_0 2 rfl rfl)
theorem dX7_push_3 : decode cX7_push 3 = .ok (.invokevirtual 250, 3) := dk_182 0 250 (dk_at dksX7_push_0 3 rfl rfl)
theorem dX7_push_6 : decode cX7_push 6 = .ok (.ifCond .ne 7, 3) := dk_154 0 7 (dk_at dksX7_push_0 6 rfl rfl)
theorem dX7_push_9 : decode cX7_push 9 = .ok (.iconst 1, 1) := dk_4 (dk_at dksX7_push_0 9 rfl rfl)
theorem dX7_push_10 : decode cX7_push 10 = .ok (.goto 23, 3) := dk_167 0 23 (dk_at dksX7_push_0 10 rfl rfl)
theorem dX7_push_13 : decode cX7_push 13 = .ok (.aload_n 0, 1) := dk_42 (dk_at dksX7_push_0 13 rfl rfl)
theorem dX7_push_14 : decode cX7_push 14 = .ok (.iload_n 1, 1) := dk_27 (dk_at dksX7_push_0 14 rfl rfl)
theorem dX7_push_15 : decode cX7_push 15 = .ok (.invokevirtual 268, 3) := dk_182 1 12 (dk_at dksX7_push_0 15 rfl rfl)
theorem dX7_push_18 : decode cX7_push 18 = .ok (.aload_n 0, 1) := dk_42 (dk_at dksX7_push_0 18 rfl rfl)
theorem dX7_push_19 : decode cX7_push 19 = .ok (.getfield 241, 3) := dk_180 0 241 (dk_at dksX7_push_0 19 rfl rfl)
theorem dX7_push_22 : decode cX7_push 22 = .ok (.iconst (-1), 1) := dk_2 (dk_at dksX7_push_0 22 rfl rfl)
theorem dX7_push_23 : decode cX7_push 23 = .ok (.ixor, 1) := dk_130 (dk_at dksX7_push_0 23 rfl rfl)
theorem dX7_push_24 : decode cX7_push 24 = .ok (.iand, 1) := dk_126 (dk_at dksX7_push_1 0 rfl rfl)
theorem dX7_push_25 : decode cX7_push 25 = .ok (.ifCond .eq 7, 3) := dk_153 0 7 (dk_at dksX7_push_1 1 rfl rfl)
theorem dX7_push_28 : decode cX7_push 28 = .ok (.iconst 2, 1) := dk_5 (dk_at dksX7_push_1 4 rfl rfl)
theorem dX7_push_29 : decode cX7_push 29 = .ok (.goto 4, 3) := dk_167 0 4 (dk_at dksX7_push_1 5 rfl rfl)
theorem dX7_push_32 : decode cX7_push 32 = .ok (.iconst 0, 1) := dk_3 (dk_at dksX7_push_1 8 rfl rfl)
theorem dX7_push_33 : decode cX7_push 33 = .ok (.putfield 189, 3) := dk_181 0 189 (dk_at dksX7_push_1 9 rfl rfl)
theorem dX7_push_36 : decode cX7_push 36 = .ok (.aload_n 0, 1) := dk_42 (dk_at dksX7_push_1 12 rfl rfl)
theorem dX7_push_37 : decode cX7_push 37 = .ok (.getfield 189, 3) := dk_180 0 189 (dk_at dksX7_push_1 13 rfl rfl)
theorem dX7_push_40 : decode cX7_push 40 = .ok (.ifCond .le 5, 3) := dk_158 0 5 (dk_at dksX7_push_1 16 rfl rfl)
theorem dX7_push_43 : decode cX7_push 43 = .ok (.iconst 0, 1) := dk_3 (dk_at dksX7_push_1 19 rfl rfl)
theorem dX7_push_44 : decode cX7_push 44 = .ok (.ireturn, 1) := dk_172 (dk_at dksX7_push_1 20 rfl rfl)
theorem dX7_push_45 : decode cX7_push 45 = .ok (.aload_n 0, 1) := dk_42 (dk_at dksX7_push_1 21 rfl rfl)
theorem dX7_push_46 : decode cX7_push 46 = .ok (.iload_n 1, 1) := dk_27 (dk_at dksX7_push_1 22 rfl rfl)
theorem dX7_push_47 : decode cX7_push 47 = .ok (.invokevirtual 268, 3) := dk_182 1 12 (dk_at dksX7_push_2 0 rfl rfl)
theorem dX7_push_50 : decode cX7_push 50 = .ok (.aload_n 0, 1) := dk_42 (dk_at dksX7_push_2 3 rfl rfl)
theorem dX7_push_51 : decode cX7_push 51 = .ok (.getfield 367, 3) := dk_180 1 111 (dk_at dksX7_push_2 4 rfl rfl)
theorem dX7_push_54 : decode cX7_push 54 = .ok (.iconst (-1), 1) := dk_2 (dk_at dksX7_push_2 7 rfl rfl)
theorem dX7_push_55 : decode cX7_push 55 = .ok (.ixor, 1) := dk_130 (dk_at dksX7_push_2 8 rfl rfl)
theorem dX7_push_56 : decode cX7_push 56 = .ok (.iand, 1) := dk_126 (dk_at dksX7_push_2 9 rfl rfl)
theorem dX7_push_57 : decode cX7_push 57 = .ok (.invokestatic 370, 3) := dk_184 1 114 (dk_at dksX7_push_2 10 rfl rfl)
theorem dX7_push_60 : decode cX7_push 60 = .ok (.istore_n 2, 1) := dk_61 (dk_at dksX7_push_2 13 rfl rfl)
theorem dX7_push_61 : decode cX7_push 61 = .ok (.aload_n 0, 1) := dk_42 (dk_at dksX7_push_2 14 rfl rfl)
theorem dX7_push_62 : decode cX7_push 62 = .ok (.dup, 1) := dk_89 (dk_at dksX7_push_2 15 rfl rfl)
theorem dX7_push_63 : decode cX7_push 63 = .ok (.getfield 367, 3) := dk_180 1 111 (dk_at dksX7_push_2 16 rfl rfl)
theorem dX7_push_66 : decode cX7_push 66 = .ok (.aload_n 0, 1) := dk_42 (dk_at dksX7_push_2 19 rfl rfl)
theorem dX7_push_67 : decode cX7_push 67 = .ok (.iload_n 1, 1) := dk_27 (dk_at dksX7_push_2 20 rfl rfl)
theorem dX7_push_68 : decode cX7_push 68 = .ok (.invokevirtual 268, 3) := dk_182 1 12 (dk_at dksX7_push_2 21 rfl rfl)
theorem dX7_push_71 : decode cX7_push 71 = .ok (.ior, 1) := dk_128 (dk_at dksX7_push_3 0 rfl rfl)
theorem dX7_push_72 : decode cX7_push 72 = .ok (.putfield 367, 3) := dk_181 1 111 (dk_at dksX7_push_3 1 rfl rfl)
theorem dX7_push_75 : decode cX7_push 75 = .ok (.aload_n 0, 1) := dk_42 (dk_at dksX7_push_3 4 rfl rfl)
theorem dX7_push_76 : decode cX7_push 76 = .ok (.dup, 1) := dk_89 (dk_at dksX7_push_3 5 rfl rfl)
theorem dX7_push_77 : decode cX7_push 77 = .ok (.getfield 373, 3) := dk_180 1 117 (dk_at dksX7_push_3 6 rfl rfl)
theorem dX7_push_80 : decode cX7_push 80 = .ok (.iconst 1, 1) := dk_4 (dk_at dksX7_push_3 9 rfl rfl)
theorem dX7_push_81 : decode cX7_push 81 = .ok (.iload_n 1, 1) := dk_27 (dk_at dksX7_push_3 10 rfl rfl)
theorem dX7_push_82 : decode cX7_push 82 = .ok (.ishl, 1) := dk_120 (dk_at dksX7_push_3 11 rfl rfl)
theorem dX7_push_83 : decode cX7_push 83 = .ok (.ior, 1) := dk_128 (dk_at dksX7_push_3 12 rfl rfl)
theorem dX7_push_84 : decode cX7_push 84 = .ok (.putfield 373, 3) := dk_181 1 117 (dk_at dksX7_push_3 13 rfl rfl)
theorem dX7_push_87 : decode cX7_push 87 = .ok (.iload_n 2, 1) := dk_28 (dk_at dksX7_push_3 16 rfl rfl)
theorem dX7_push_88 : decode cX7_push 88 = .ok (.ireturn, 1) := dk_172 (dk_at dksX7_push_3 17 rfl rfl)
abbrev cX7_bits : ByteArray := prog_17_method_81_code
def yX7_bits : MethodName := ⟨RX7, "bits", "(I)I"⟩
def dkwX7_bits_1 : List UInt8 := [27, 172]
abbrev dktX7_bits_1 : List UInt8 := dkwX7_bits_1 ++ []
def dkwX7_bits_0 : List UInt8 := [3, 60, 3, 61, 28, 16, 20, 162, 0, 17, 27, 26, 28, 122, 4, 126, 96, 60, 132, 2, 1, 167, 255, 239]
abbrev dktX7_bits_0 : List UInt8 := dkwX7_bits_0 ++ dktX7_bits_1
theorem dksX7_bits_0 : cX7_bits.data.toList.drop 0 = dktX7_bits_0 := by decide +kernel
theorem dksX7_bits_1 : cX7_bits.data.toList.drop 24 = dktX7_bits_1 := dk_seg dksX7_bits_0 24 rfl rfl
theorem dX7_bits_0 : decode cX7_bits 0 = .ok (.iconst 0, 1) := dk_3 (dk_at dksX7_bits_0 0 rfl rfl)
theorem dX7_bits_1 : decode cX7_bits 1 = .ok (.istore_n 1, 1) := dk_60 (dk_at dksX7_bits_0 1 rfl rfl)
theorem dX7_bits_2 : decode cX7_bits 2 = .ok (.iconst 0, 1) := dk_3 (dk_at dksX7_bits_0 2 rfl rfl)
theorem dX7_bits_3 : decode cX7_bits 3 = .ok (.istore_n 2, 1) := dk_61 (dk_at dksX7_bits_0 3 rfl rfl)
theorem dX7_bits_4 : decode cX7_bits 4 = .ok (.iload_n 2, 1) := dk_28 (dk_at dksX7_bits_0 4 rfl rfl)
theorem dX7_bits_5 : decode cX7_bits 5 = .ok (.bipush 20, 2) := dk_16 20 (dk_at dksX7_bits_0 5 rfl rfl)
theorem dX7_bits_7 : decode cX7_bits 7 = .ok (.if_icmp .ge 17, 3) := dk_162 0 17 (dk_at dksX7_bits_0 7 rfl rfl)
theorem dX7_bits_10 : decode cX7_bits 10 = .ok (.iload_n 1, 1) := dk_27 (dk_at dksX7_bits_0 10 rfl rfl)
theorem dX7_bits_11 : decode cX7_bits 11 = .ok (.iload_n 0, 1) := dk_26 (dk_at dksX7_bits_0 11 rfl rfl)
theorem dX7_bits_12 : decode cX7_bits 12 = .ok (.iload_n 2, 1) := dk_28 (dk_at dksX7_bits_0 12 rfl rfl)
theorem dX7_bits_13 : decode cX7_bits 13 = .ok (.ishr, 1) := dk_122 (dk_at dksX7_bits_0 13 rfl rfl)
theorem dX7_bits_14 : decode cX7_bits 14 = .ok (.iconst 1, 1) := dk_4 (dk_at dksX7_bits_0 14 rfl rfl)
theorem dX7_bits_15 : decode cX7_bits 15 = .ok (.iand, 1) := dk_126 (dk_at dksX7_bits_0 15 rfl rfl)
theorem dX7_bits_16 : decode cX7_bits 16 = .ok (.iadd, 1) := dk_96 (dk_at dksX7_bits_0 16 rfl rfl)
theorem dX7_bits_17 : decode cX7_bits 17 = .ok (.istore_n 1, 1) := dk_60 (dk_at dksX7_bits_0 17 rfl rfl)
theorem dX7_bits_18 : decode cX7_bits 18 = .ok (.iinc 2 1, 3) := dk_132 2 1 (dk_at dksX7_bits_0 18 rfl rfl)
theorem dX7_bits_21 : decode cX7_bits 21 = .ok (.goto (-17), 3) := dk_167 255 239 (dk_at dksX7_bits_0 21 rfl rfl)
theorem dX7_bits_24 : decode cX7_bits 24 = .ok (.iload_n 1, 1) := dk_27 (dk_at dksX7_bits_1 0 rfl rfl)
theorem dX7_bits_25 : decode cX7_bits 25 = .ok (.ireturn, 1) := dk_172 (dk_at dksX7_bits_1 1 rfl rfl)
abbrev cX7_pull : ByteArray := prog_17_method_83_code
def yX7_pull : MethodName := ⟨RX7, "pull", "(II)I"⟩
def dkwX7_pull_6 : List UInt8 := [184, 1, 114, 172]
abbrev dktX7_pull_6 : List UInt8 := dkwX7_pull_6 ++ []
def dkwX7_pull_5 : List UInt8 := [128, 181, 0, 241, 132, 4, 1, 167, 255, 191, 42, 27, 182, 1, 12, 42, 180, 0, 241, 2, 130, 126]
abbrev dktX7_pull_5 : List UInt8 := dkwX7_pull_5 ++ dktX7_pull_6
def dkwX7_pull_4 : List UInt8 := [21, 5, 122, 4, 126, 154, 0, 7, 4, 167, 0, 4, 3, 96, 62, 42, 89, 180, 0, 241, 4, 21, 5, 120]
abbrev dktX7_pull_4 : List UInt8 := dkwX7_pull_4 ++ dktX7_pull_5
def dkwX7_pull_3 : List UInt8 := [29, 28, 162, 0, 55, 42, 180, 0, 47, 8, 27, 104, 21, 4, 96, 46, 54, 5, 29, 42, 180, 0, 241]
abbrev dktX7_pull_3 : List UInt8 := dkwX7_pull_3 ++ dktX7_pull_4
def dkwX7_pull_2 : List UInt8 := [180, 0, 189, 158, 0, 5, 3, 172, 3, 62, 3, 54, 4, 21, 4, 42, 180, 0, 44, 27, 46, 162, 0, 60]
abbrev dktX7_pull_2 : List UInt8 := dkwX7_pull_2 ++ dktX7_pull_3
def dkwX7_pull_1 : List UInt8 := [167, 0, 19, 42, 180, 1, 117, 27, 122, 4, 126, 154, 0, 7, 6, 167, 0, 4, 3, 181, 0, 189, 42]
abbrev dktX7_pull_1 : List UInt8 := dkwX7_pull_1 ++ dktX7_pull_2
def dkwX7_pull_0 : List UInt8 := [42, 42, 27, 182, 0, 250, 154, 0, 7, 4, 167, 0, 32, 28, 4, 8, 184, 0, 192, 154, 0, 7, 5]
abbrev dktX7_pull_0 : List UInt8 := dkwX7_pull_0 ++ dktX7_pull_1
theorem dksX7_pull_0 : cX7_pull.data.toList.drop 0 = dktX7_pull_0 := by decide +kernel
theorem dksX7_pull_1 : cX7_pull.data.toList.drop 23 = dktX7_pull_1 := dk_seg dksX7_pull_0 23 rfl rfl
theorem dksX7_pull_2 : cX7_pull.data.toList.drop 46 = dktX7_pull_2 := dk_seg dksX7_pull_1 23 rfl rfl
theorem dksX7_pull_3 : cX7_pull.data.toList.drop 70 = dktX7_pull_3 := dk_seg dksX7_pull_2 24 rfl rfl
theorem dksX7_pull_4 : cX7_pull.data.toList.drop 93 = dktX7_pull_4 := dk_seg dksX7_pull_3 23 rfl rfl
theorem dksX7_pull_5 : cX7_pull.data.toList.drop 117 = dktX7_pull_5 := dk_seg dksX7_pull_4 24 rfl rfl
theorem dksX7_pull_6 : cX7_pull.data.toList.drop 139 = dktX7_pull_6 := dk_seg dksX7_pull_5 22 rfl rfl
theorem dX7_pull_0 : decode cX7_pull 0 = .ok (.aload_n 0, 1) := dk_42 (dk_at dksX7_pull_0 0 rfl rfl)
theorem dX7_pull_1 : decode cX7_pull 1 = .ok (.aload_n 0, 1) := dk_42 (dk_at dksX7_pull_0 1 rfl rfl)
theorem dX7_pull_2 : decode cX7_pull 2 = .ok (.iload_n 1, 1) := dk_27 (dk_at dksX7_pull_0 2 rfl rfl)
theorem dX7_pull_3 : decode cX7_pull 3 = .ok (.invokevirtual 250, 3) := dk_182 0 250 (dk_at dksX7_pull_0 3 rfl rfl)
theorem dX7_pull_6 : decode cX7_pull 6 = .ok (.ifCond .ne 7, 3) := dk_154 0 7 (dk_at dksX7_pull_0 6 rfl rfl)
theorem dX7_pull_9 : decode cX7_pull 9 = .ok (.iconst 1, 1) := dk_4 (dk_at dksX7_pull_0 9 rfl rfl)
theorem dX7_pull_10 : decode cX7_pull 10 = .ok (.goto 32, 3) := dk_167 0 32 (dk_at dksX7_pull_0 10 rfl rfl)
theorem dX7_pull_13 : decode cX7_pull 13 = .ok (.iload_n 2, 1) := dk_28 (dk_at dksX7_pull_0 13 rfl rfl)
theorem dX7_pull_14 : decode cX7_pull 14 = .ok (.iconst 1, 1) := dk_4 (dk_at dksX7_pull_0 14 rfl rfl)
theorem dX7_pull_15 : decode cX7_pull 15 = .ok (.iconst 5, 1) := dk_8 (dk_at dksX7_pull_0 15 rfl rfl)
theorem dX7_pull_16 : decode cX7_pull 16 = .ok (.invokestatic 192, 3) := dk_184 0 192 (dk_at dksX7_pull_0 16 rfl rfl)
theorem dX7_pull_19 : decode cX7_pull 19 = .ok (.ifCond .ne 7, 3) := dk_154 0 7 (dk_at dksX7_pull_0 19 rfl rfl)
theorem dX7_pull_22 : decode cX7_pull 22 = .ok (.iconst 2, 1) := dk_5 (dk_at dksX7_pull_0 22 rfl rfl)
theorem dX7_pull_23 : decode cX7_pull 23 = .ok (.goto 19, 3) := dk_167 0 19 (dk_at dksX7_pull_1 0 rfl rfl)
theorem dX7_pull_26 : decode cX7_pull 26 = .ok (.aload_n 0, 1) := dk_42 (dk_at dksX7_pull_1 3 rfl rfl)
theorem dX7_pull_27 : decode cX7_pull 27 = .ok (.getfield 373, 3) := dk_180 1 117 (dk_at dksX7_pull_1 4 rfl rfl)
theorem dX7_pull_30 : decode cX7_pull 30 = .ok (.iload_n 1, 1) := dk_27 (dk_at dksX7_pull_1 7 rfl rfl)
theorem dX7_pull_31 : decode cX7_pull 31 = .ok (.ishr, 1) := dk_122 (dk_at dksX7_pull_1 8 rfl rfl)
theorem dX7_pull_32 : decode cX7_pull 32 = .ok (.iconst 1, 1) := dk_4 (dk_at dksX7_pull_1 9 rfl rfl)
theorem dX7_pull_33 : decode cX7_pull 33 = .ok (.iand, 1) := dk_126 (dk_at dksX7_pull_1 10 rfl rfl)
theorem dX7_pull_34 : decode cX7_pull 34 = .ok (.ifCond .ne 7, 3) := dk_154 0 7 (dk_at dksX7_pull_1 11 rfl rfl)
theorem dX7_pull_37 : decode cX7_pull 37 = .ok (.iconst 3, 1) := dk_6 (dk_at dksX7_pull_1 14 rfl rfl)
theorem dX7_pull_38 : decode cX7_pull 38 = .ok (.goto 4, 3) := dk_167 0 4 (dk_at dksX7_pull_1 15 rfl rfl)
theorem dX7_pull_41 : decode cX7_pull 41 = .ok (.iconst 0, 1) := dk_3 (dk_at dksX7_pull_1 18 rfl rfl)
theorem dX7_pull_42 : decode cX7_pull 42 = .ok (.putfield 189, 3) := dk_181 0 189 (dk_at dksX7_pull_1 19 rfl rfl)
theorem dX7_pull_45 : decode cX7_pull 45 = .ok (.aload_n 0, 1) := dk_42 (dk_at dksX7_pull_1 22 rfl rfl)
theorem dX7_pull_46 : decode cX7_pull 46 = .ok (.getfield 189, 3) := dk_180 0 189 (dk_at dksX7_pull_2 0 rfl rfl)
theorem dX7_pull_49 : decode cX7_pull 49 = .ok (.ifCond .le 5, 3) := dk_158 0 5 (dk_at dksX7_pull_2 3 rfl rfl)
theorem dX7_pull_52 : decode cX7_pull 52 = .ok (.iconst 0, 1) := dk_3 (dk_at dksX7_pull_2 6 rfl rfl)
theorem dX7_pull_53 : decode cX7_pull 53 = .ok (.ireturn, 1) := dk_172 (dk_at dksX7_pull_2 7 rfl rfl)
theorem dX7_pull_54 : decode cX7_pull 54 = .ok (.iconst 0, 1) := dk_3 (dk_at dksX7_pull_2 8 rfl rfl)
theorem dX7_pull_55 : decode cX7_pull 55 = .ok (.istore_n 3, 1) := dk_62 (dk_at dksX7_pull_2 9 rfl rfl)
theorem dX7_pull_56 : decode cX7_pull 56 = .ok (.iconst 0, 1) := dk_3 (dk_at dksX7_pull_2 10 rfl rfl)
theorem dX7_pull_57 : decode cX7_pull 57 = .ok (.istore 4, 2) := dk_54 4 (dk_at dksX7_pull_2 11 rfl rfl)
theorem dX7_pull_59 : decode cX7_pull 59 = .ok (.iload 4, 2) := dk_21 4 (dk_at dksX7_pull_2 13 rfl rfl)
theorem dX7_pull_61 : decode cX7_pull 61 = .ok (.aload_n 0, 1) := dk_42 (dk_at dksX7_pull_2 15 rfl rfl)
theorem dX7_pull_62 : decode cX7_pull 62 = .ok (.getfield 44, 3) := dk_180 0 44 (dk_at dksX7_pull_2 16 rfl rfl)
theorem dX7_pull_65 : decode cX7_pull 65 = .ok (.iload_n 1, 1) := dk_27 (dk_at dksX7_pull_2 19 rfl rfl)
theorem dX7_pull_66 : decode cX7_pull 66 = .ok (.iaload, 1) := dk_46 (dk_at dksX7_pull_2 20 rfl rfl)
theorem dX7_pull_67 : decode cX7_pull 67 = .ok (.if_icmp .ge 60, 3) := dk_162 0 60 (dk_at dksX7_pull_2 21 rfl rfl)
theorem dX7_pull_70 : decode cX7_pull 70 = .ok (.iload_n 3, 1) := dk_29 (dk_at dksX7_pull_3 0 rfl rfl)
theorem dX7_pull_71 : decode cX7_pull 71 = .ok (.iload_n 2, 1) := dk_28 (dk_at dksX7_pull_3 1 rfl rfl)
theorem dX7_pull_72 : decode cX7_pull 72 = .ok (.if_icmp .ge 55, 3) := dk_162 0 55 (dk_at dksX7_pull_3 2 rfl rfl)
theorem dX7_pull_75 : decode cX7_pull 75 = .ok (.aload_n 0, 1) := dk_42 (dk_at dksX7_pull_3 5 rfl rfl)
theorem dX7_pull_76 : decode cX7_pull 76 = .ok (.getfield 47, 3) := dk_180 0 47 (dk_at dksX7_pull_3 6 rfl rfl)
theorem dX7_pull_79 : decode cX7_pull 79 = .ok (.iconst 5, 1) := dk_8 (dk_at dksX7_pull_3 9 rfl rfl)
theorem dX7_pull_80 : decode cX7_pull 80 = .ok (.iload_n 1, 1) := dk_27 (dk_at dksX7_pull_3 10 rfl rfl)
theorem dX7_pull_81 : decode cX7_pull 81 = .ok (.imul, 1) := dk_104 (dk_at dksX7_pull_3 11 rfl rfl)
theorem dX7_pull_82 : decode cX7_pull 82 = .ok (.iload 4, 2) := dk_21 4 (dk_at dksX7_pull_3 12 rfl rfl)
theorem dX7_pull_84 : decode cX7_pull 84 = .ok (.iadd, 1) := dk_96 (dk_at dksX7_pull_3 14 rfl rfl)
theorem dX7_pull_85 : decode cX7_pull 85 = .ok (.iaload, 1) := dk_46 (dk_at dksX7_pull_3 15 rfl rfl)
theorem dX7_pull_86 : decode cX7_pull 86 = .ok (.istore 5, 2) := dk_54 5 (dk_at dksX7_pull_3 16 rfl rfl)
theorem dX7_pull_88 : decode cX7_pull 88 = .ok (.iload_n 3, 1) := dk_29 (dk_at dksX7_pull_3 18 rfl rfl)
theorem dX7_pull_89 : decode cX7_pull 89 = .ok (.aload_n 0, 1) := dk_42 (dk_at dksX7_pull_3 19 rfl rfl)
theorem dX7_pull_90 : decode cX7_pull 90 = .ok (.getfield 241, 3) := dk_180 0 241 (dk_at dksX7_pull_3 20 rfl rfl)
theorem dX7_pull_93 : decode cX7_pull 93 = .ok (.iload 5, 2) := dk_21 5 (dk_at dksX7_pull_4 0 rfl rfl)
theorem dX7_pull_95 : decode cX7_pull 95 = .ok (.ishr, 1) := dk_122 (dk_at dksX7_pull_4 2 rfl rfl)
theorem dX7_pull_96 : decode cX7_pull 96 = .ok (.iconst 1, 1) := dk_4 (dk_at dksX7_pull_4 3 rfl rfl)
theorem dX7_pull_97 : decode cX7_pull 97 = .ok (.iand, 1) := dk_126 (dk_at dksX7_pull_4 4 rfl rfl)
theorem dX7_pull_98 : decode cX7_pull 98 = .ok (.ifCond .ne 7, 3) := dk_154 0 7 (dk_at dksX7_pull_4 5 rfl rfl)
theorem dX7_pull_101 : decode cX7_pull 101 = .ok (.iconst 1, 1) := dk_4 (dk_at dksX7_pull_4 8 rfl rfl)
theorem dX7_pull_102 : decode cX7_pull 102 = .ok (.goto 4, 3) := dk_167 0 4 (dk_at dksX7_pull_4 9 rfl rfl)
theorem dX7_pull_105 : decode cX7_pull 105 = .ok (.iconst 0, 1) := dk_3 (dk_at dksX7_pull_4 12 rfl rfl)
theorem dX7_pull_106 : decode cX7_pull 106 = .ok (.iadd, 1) := dk_96 (dk_at dksX7_pull_4 13 rfl rfl)
theorem dX7_pull_107 : decode cX7_pull 107 = .ok (.istore_n 3, 1) := dk_62 (dk_at dksX7_pull_4 14 rfl rfl)
theorem dX7_pull_108 : decode cX7_pull 108 = .ok (.aload_n 0, 1) := dk_42 (dk_at dksX7_pull_4 15 rfl rfl)
theorem dX7_pull_109 : decode cX7_pull 109 = .ok (.dup, 1) := dk_89 (dk_at dksX7_pull_4 16 rfl rfl)
theorem dX7_pull_110 : decode cX7_pull 110 = .ok (.getfield 241, 3) := dk_180 0 241 (dk_at dksX7_pull_4 17 rfl rfl)
theorem dX7_pull_113 : decode cX7_pull 113 = .ok (.iconst 1, 1) := dk_4 (dk_at dksX7_pull_4 20 rfl rfl)
theorem dX7_pull_114 : decode cX7_pull 114 = .ok (.iload 5, 2) := dk_21 5 (dk_at dksX7_pull_4 21 rfl rfl)
theorem dX7_pull_116 : decode cX7_pull 116 = .ok (.ishl, 1) := dk_120 (dk_at dksX7_pull_4 23 rfl rfl)
theorem dX7_pull_117 : decode cX7_pull 117 = .ok (.ior, 1) := dk_128 (dk_at dksX7_pull_5 0 rfl rfl)
theorem dX7_pull_118 : decode cX7_pull 118 = .ok (.putfield 241, 3) := dk_181 0 241 (dk_at dksX7_pull_5 1 rfl rfl)
theorem dX7_pull_121 : decode cX7_pull 121 = .ok (.iinc 4 1, 3) := dk_132 4 1 (dk_at dksX7_pull_5 4 rfl rfl)
theorem dX7_pull_124 : decode cX7_pull 124 = .ok (.goto (-65), 3) := dk_167 255 191 (dk_at dksX7_pull_5 7 rfl rfl)
theorem dX7_pull_127 : decode cX7_pull 127 = .ok (.aload_n 0, 1) := dk_42 (dk_at dksX7_pull_5 10 rfl rfl)
theorem dX7_pull_128 : decode cX7_pull 128 = .ok (.iload_n 1, 1) := dk_27 (dk_at dksX7_pull_5 11 rfl rfl)
theorem dX7_pull_129 : decode cX7_pull 129 = .ok (.invokevirtual 268, 3) := dk_182 1 12 (dk_at dksX7_pull_5 12 rfl rfl)
theorem dX7_pull_132 : decode cX7_pull 132 = .ok (.aload_n 0, 1) := dk_42 (dk_at dksX7_pull_5 15 rfl rfl)
theorem dX7_pull_133 : decode cX7_pull 133 = .ok (.getfield 241, 3) := dk_180 0 241 (dk_at dksX7_pull_5 16 rfl rfl)
theorem dX7_pull_136 : decode cX7_pull 136 = .ok (.iconst (-1), 1) := dk_2 (dk_at dksX7_pull_5 19 rfl rfl)
theorem dX7_pull_137 : decode cX7_pull 137 = .ok (.ixor, 1) := dk_130 (dk_at dksX7_pull_5 20 rfl rfl)
theorem dX7_pull_138 : decode cX7_pull 138 = .ok (.iand, 1) := dk_126 (dk_at dksX7_pull_5 21 rfl rfl)
theorem dX7_pull_139 : decode cX7_pull 139 = .ok (.invokestatic 370, 3) := dk_184 1 114 (dk_at dksX7_pull_6 0 rfl rfl)
theorem dX7_pull_142 : decode cX7_pull 142 = .ok (.ireturn, 1) := dk_172 (dk_at dksX7_pull_6 3 rfl rfl)
abbrev cX7_forget : ByteArray := prog_17_method_84_code
def yX7_forget : MethodName := ⟨RX7, "forget", "(I)Z"⟩
def dkwX7_forget_2 : List UInt8 := [180, 1, 117, 4, 27, 120, 2, 130, 126, 181, 1, 117, 28, 172]
abbrev dktX7_forget_2 : List UInt8 := dkwX7_forget_2 ++ []
def dkwX7_forget_1 : List UInt8 := [3, 172, 42, 180, 1, 117, 27, 122, 4, 126, 4, 160, 0, 7, 4, 167, 0, 4, 3, 61, 42, 89]
abbrev dktX7_forget_1 : List UInt8 := dkwX7_forget_1 ++ dktX7_forget_2
def dkwX7_forget_0 : List UInt8 := [42, 42, 27, 182, 0, 250, 153, 0, 7, 3, 167, 0, 4, 4, 181, 0, 189, 42, 180, 0, 189, 158, 0, 5]
abbrev dktX7_forget_0 : List UInt8 := dkwX7_forget_0 ++ dktX7_forget_1
theorem dksX7_forget_0 : cX7_forget.data.toList.drop 0 = dktX7_forget_0 := by decide +kernel
theorem dksX7_forget_1 : cX7_forget.data.toList.drop 24 = dktX7_forget_1 := dk_seg dksX7_forget_0 24 rfl rfl
theorem dksX7_forget_2 : cX7_forget.data.toList.drop 46 = dktX7_forget_2 := dk_seg dksX7_forget_1 22 rfl rfl
theorem dX7_forget_0 : decode cX7_forget 0 = .ok (.aload_n 0, 1) := dk_42 (dk_at dksX7_forget_0 0 rfl rfl)
theorem dX7_forget_1 : decode cX7_forget 1 = .ok (.aload_n 0, 1) := dk_42 (dk_at dksX7_forget_0 1 rfl rfl)
theorem dX7_forget_2 : decode cX7_forget 2 = .ok (.iload_n 1, 1) := dk_27 (dk_at dksX7_forget_0 2 rfl rfl)
theorem dX7_forget_3 : decode cX7_forget 3 = .ok (.invokevirtual 250, 3) := dk_182 0 250 (dk_at dksX7_forget_0 3 rfl rfl)
theorem dX7_forget_6 : decode cX7_forget 6 = .ok (.ifCond .eq 7, 3) := dk_153 0 7 (dk_at dksX7_forget_0 6 rfl rfl)
theorem dX7_forget_9 : decode cX7_forget 9 = .ok (.iconst 0, 1) := dk_3 (dk_at dksX7_forget_0 9 rfl rfl)
theorem dX7_forget_10 : decode cX7_forget 10 = .ok (.goto 4, 3) := dk_167 0 4 (dk_at dksX7_forget_0 10 rfl rfl)
theorem dX7_forget_13 : decode cX7_forget 13 = .ok (.iconst 1, 1) := dk_4 (dk_at dksX7_forget_0 13 rfl rfl)
theorem dX7_forget_14 : decode cX7_forget 14 = .ok (.putfield 189, 3) := dk_181 0 189 (dk_at dksX7_forget_0 14 rfl rfl)
theorem dX7_forget_17 : decode cX7_forget 17 = .ok (.aload_n 0, 1) := dk_42 (dk_at dksX7_forget_0 17 rfl rfl)
theorem dX7_forget_18 : decode cX7_forget 18 = .ok (.getfield 189, 3) := dk_180 0 189 (dk_at dksX7_forget_0 18 rfl rfl)
theorem dX7_forget_21 : decode cX7_forget 21 = .ok (.ifCond .le 5, 3) := dk_158 0 5 (dk_at dksX7_forget_0 21 rfl rfl)
theorem dX7_forget_24 : decode cX7_forget 24 = .ok (.iconst 0, 1) := dk_3 (dk_at dksX7_forget_1 0 rfl rfl)
theorem dX7_forget_25 : decode cX7_forget 25 = .ok (.ireturn, 1) := dk_172 (dk_at dksX7_forget_1 1 rfl rfl)
theorem dX7_forget_26 : decode cX7_forget 26 = .ok (.aload_n 0, 1) := dk_42 (dk_at dksX7_forget_1 2 rfl rfl)
theorem dX7_forget_27 : decode cX7_forget 27 = .ok (.getfield 373, 3) := dk_180 1 117 (dk_at dksX7_forget_1 3 rfl rfl)
theorem dX7_forget_30 : decode cX7_forget 30 = .ok (.iload_n 1, 1) := dk_27 (dk_at dksX7_forget_1 6 rfl rfl)
theorem dX7_forget_31 : decode cX7_forget 31 = .ok (.ishr, 1) := dk_122 (dk_at dksX7_forget_1 7 rfl rfl)
theorem dX7_forget_32 : decode cX7_forget 32 = .ok (.iconst 1, 1) := dk_4 (dk_at dksX7_forget_1 8 rfl rfl)
theorem dX7_forget_33 : decode cX7_forget 33 = .ok (.iand, 1) := dk_126 (dk_at dksX7_forget_1 9 rfl rfl)
theorem dX7_forget_34 : decode cX7_forget 34 = .ok (.iconst 1, 1) := dk_4 (dk_at dksX7_forget_1 10 rfl rfl)
theorem dX7_forget_35 : decode cX7_forget 35 = .ok (.if_icmp .ne 7, 3) := dk_160 0 7 (dk_at dksX7_forget_1 11 rfl rfl)
theorem dX7_forget_38 : decode cX7_forget 38 = .ok (.iconst 1, 1) := dk_4 (dk_at dksX7_forget_1 14 rfl rfl)
theorem dX7_forget_39 : decode cX7_forget 39 = .ok (.goto 4, 3) := dk_167 0 4 (dk_at dksX7_forget_1 15 rfl rfl)
theorem dX7_forget_42 : decode cX7_forget 42 = .ok (.iconst 0, 1) := dk_3 (dk_at dksX7_forget_1 18 rfl rfl)
theorem dX7_forget_43 : decode cX7_forget 43 = .ok (.istore_n 2, 1) := dk_61 (dk_at dksX7_forget_1 19 rfl rfl)
theorem dX7_forget_44 : decode cX7_forget 44 = .ok (.aload_n 0, 1) := dk_42 (dk_at dksX7_forget_1 20 rfl rfl)
theorem dX7_forget_45 : decode cX7_forget 45 = .ok (.dup, 1) := dk_89 (dk_at dksX7_forget_1 21 rfl rfl)
theorem dX7_forget_46 : decode cX7_forget 46 = .ok (.getfield 373, 3) := dk_180 1 117 (dk_at dksX7_forget_2 0 rfl rfl)
theorem dX7_forget_49 : decode cX7_forget 49 = .ok (.iconst 1, 1) := dk_4 (dk_at dksX7_forget_2 3 rfl rfl)
theorem dX7_forget_50 : decode cX7_forget 50 = .ok (.iload_n 1, 1) := dk_27 (dk_at dksX7_forget_2 4 rfl rfl)
theorem dX7_forget_51 : decode cX7_forget 51 = .ok (.ishl, 1) := dk_120 (dk_at dksX7_forget_2 5 rfl rfl)
theorem dX7_forget_52 : decode cX7_forget 52 = .ok (.iconst (-1), 1) := dk_2 (dk_at dksX7_forget_2 6 rfl rfl)
theorem dX7_forget_53 : decode cX7_forget 53 = .ok (.ixor, 1) := dk_130 (dk_at dksX7_forget_2 7 rfl rfl)
theorem dX7_forget_54 : decode cX7_forget 54 = .ok (.iand, 1) := dk_126 (dk_at dksX7_forget_2 8 rfl rfl)
theorem dX7_forget_55 : decode cX7_forget 55 = .ok (.putfield 373, 3) := dk_181 1 117 (dk_at dksX7_forget_2 9 rfl rfl)
theorem dX7_forget_58 : decode cX7_forget 58 = .ok (.iload_n 2, 1) := dk_28 (dk_at dksX7_forget_2 12 rfl rfl)
theorem dX7_forget_59 : decode cX7_forget 59 = .ok (.ireturn, 1) := dk_172 (dk_at dksX7_forget_2 13 rfl rfl)
abbrev cX7_sweep : ByteArray := prog_17_method_85_code
def yX7_sweep : MethodName := ⟨RX7, "sweep", "()I"⟩
def dkwX7_sweep_2 : List UInt8 := [180, 1, 111, 27, 2, 130, 126, 184, 1, 114, 61, 42, 89, 180, 1, 111, 27, 126, 181, 1, 111, 28, 172]
abbrev dktX7_sweep_2 : List UInt8 := dkwX7_sweep_2 ++ []
def dkwX7_sweep_1 : List UInt8 := [4, 126, 4, 160, 0, 11, 42, 28, 182, 1, 12, 167, 0, 4, 3, 128, 60, 132, 2, 1, 167, 255, 221, 42]
abbrev dktX7_sweep_1 : List UInt8 := dkwX7_sweep_1 ++ dktX7_sweep_2
def dkwX7_sweep_0 : List UInt8 := [42, 3, 181, 0, 189, 3, 60, 3, 61, 28, 42, 180, 0, 40, 162, 0, 33, 27, 42, 180, 1, 117, 28, 122]
abbrev dktX7_sweep_0 : List UInt8 := dkwX7_sweep_0 ++ dktX7_sweep_1
theorem dksX7_sweep_0 : cX7_sweep.data.toList.drop 0 = dktX7_sweep_0 := by decide +kernel
theorem dksX7_sweep_1 : cX7_sweep.data.toList.drop 24 = dktX7_sweep_1 := dk_seg dksX7_sweep_0 24 rfl rfl
theorem dksX7_sweep_2 : cX7_sweep.data.toList.drop 48 = dktX7_sweep_2 := dk_seg dksX7_sweep_1 24 rfl rfl
theorem dX7_sweep_0 : decode cX7_sweep 0 = .ok (.aload_n 0, 1) := dk_42 (dk_at dksX7_sweep_0 0 rfl rfl)
theorem dX7_sweep_1 : decode cX7_sweep 1 = .ok (.iconst 0, 1) := dk_3 (dk_at dksX7_sweep_0 1 rfl rfl)
theorem dX7_sweep_2 : decode cX7_sweep 2 = .ok (.putfield 189, 3) := dk_181 0 189 (dk_at dksX7_sweep_0 2 rfl rfl)
theorem dX7_sweep_5 : decode cX7_sweep 5 = .ok (.iconst 0, 1) := dk_3 (dk_at dksX7_sweep_0 5 rfl rfl)
theorem dX7_sweep_6 : decode cX7_sweep 6 = .ok (.istore_n 1, 1) := dk_60 (dk_at dksX7_sweep_0 6 rfl rfl)
theorem dX7_sweep_7 : decode cX7_sweep 7 = .ok (.iconst 0, 1) := dk_3 (dk_at dksX7_sweep_0 7 rfl rfl)
theorem dX7_sweep_8 : decode cX7_sweep 8 = .ok (.istore_n 2, 1) := dk_61 (dk_at dksX7_sweep_0 8 rfl rfl)
theorem dX7_sweep_9 : decode cX7_sweep 9 = .ok (.iload_n 2, 1) := dk_28 (dk_at dksX7_sweep_0 9 rfl rfl)
theorem dX7_sweep_10 : decode cX7_sweep 10 = .ok (.aload_n 0, 1) := dk_42 (dk_at dksX7_sweep_0 10 rfl rfl)
theorem dX7_sweep_11 : decode cX7_sweep 11 = .ok (.getfield 40, 3) := dk_180 0 40 (dk_at dksX7_sweep_0 11 rfl rfl)
theorem dX7_sweep_14 : decode cX7_sweep 14 = .ok (.if_icmp .ge 33, 3) := dk_162 0 33 (dk_at dksX7_sweep_0 14 rfl rfl)
theorem dX7_sweep_17 : decode cX7_sweep 17 = .ok (.iload_n 1, 1) := dk_27 (dk_at dksX7_sweep_0 17 rfl rfl)
theorem dX7_sweep_18 : decode cX7_sweep 18 = .ok (.aload_n 0, 1) := dk_42 (dk_at dksX7_sweep_0 18 rfl rfl)
theorem dX7_sweep_19 : decode cX7_sweep 19 = .ok (.getfield 373, 3) := dk_180 1 117 (dk_at dksX7_sweep_0 19 rfl rfl)
theorem dX7_sweep_22 : decode cX7_sweep 22 = .ok (.iload_n 2, 1) := dk_28 (dk_at dksX7_sweep_0 22 rfl rfl)
theorem dX7_sweep_23 : decode cX7_sweep 23 = .ok (.ishr, 1) := dk_122 (dk_at dksX7_sweep_0 23 rfl rfl)
theorem dX7_sweep_24 : decode cX7_sweep 24 = .ok (.iconst 1, 1) := dk_4 (dk_at dksX7_sweep_1 0 rfl rfl)
theorem dX7_sweep_25 : decode cX7_sweep 25 = .ok (.iand, 1) := dk_126 (dk_at dksX7_sweep_1 1 rfl rfl)
theorem dX7_sweep_26 : decode cX7_sweep 26 = .ok (.iconst 1, 1) := dk_4 (dk_at dksX7_sweep_1 2 rfl rfl)
theorem dX7_sweep_27 : decode cX7_sweep 27 = .ok (.if_icmp .ne 11, 3) := dk_160 0 11 (dk_at dksX7_sweep_1 3 rfl rfl)
theorem dX7_sweep_30 : decode cX7_sweep 30 = .ok (.aload_n 0, 1) := dk_42 (dk_at dksX7_sweep_1 6 rfl rfl)
theorem dX7_sweep_31 : decode cX7_sweep 31 = .ok (.iload_n 2, 1) := dk_28 (dk_at dksX7_sweep_1 7 rfl rfl)
theorem dX7_sweep_32 : decode cX7_sweep 32 = .ok (.invokevirtual 268, 3) := dk_182 1 12 (dk_at dksX7_sweep_1 8 rfl rfl)
theorem dX7_sweep_35 : decode cX7_sweep 35 = .ok (.goto 4, 3) := dk_167 0 4 (dk_at dksX7_sweep_1 11 rfl rfl)
theorem dX7_sweep_38 : decode cX7_sweep 38 = .ok (.iconst 0, 1) := dk_3 (dk_at dksX7_sweep_1 14 rfl rfl)
theorem dX7_sweep_39 : decode cX7_sweep 39 = .ok (.ior, 1) := dk_128 (dk_at dksX7_sweep_1 15 rfl rfl)
theorem dX7_sweep_40 : decode cX7_sweep 40 = .ok (.istore_n 1, 1) := dk_60 (dk_at dksX7_sweep_1 16 rfl rfl)
theorem dX7_sweep_41 : decode cX7_sweep 41 = .ok (.iinc 2 1, 3) := dk_132 2 1 (dk_at dksX7_sweep_1 17 rfl rfl)
theorem dX7_sweep_44 : decode cX7_sweep 44 = .ok (.goto (-35), 3) := dk_167 255 221 (dk_at dksX7_sweep_1 20 rfl rfl)
theorem dX7_sweep_47 : decode cX7_sweep 47 = .ok (.aload_n 0, 1) := dk_42 (dk_at dksX7_sweep_1 23 rfl rfl)
theorem dX7_sweep_48 : decode cX7_sweep 48 = .ok (.getfield 367, 3) := dk_180 1 111 (dk_at dksX7_sweep_2 0 rfl rfl)
theorem dX7_sweep_51 : decode cX7_sweep 51 = .ok (.iload_n 1, 1) := dk_27 (dk_at dksX7_sweep_2 3 rfl rfl)
theorem dX7_sweep_52 : decode cX7_sweep 52 = .ok (.iconst (-1), 1) := dk_2 (dk_at dksX7_sweep_2 4 rfl rfl)
theorem dX7_sweep_53 : decode cX7_sweep 53 = .ok (.ixor, 1) := dk_130 (dk_at dksX7_sweep_2 5 rfl rfl)
theorem dX7_sweep_54 : decode cX7_sweep 54 = .ok (.iand, 1) := dk_126 (dk_at dksX7_sweep_2 6 rfl rfl)
theorem dX7_sweep_55 : decode cX7_sweep 55 = .ok (.invokestatic 370, 3) := dk_184 1 114 (dk_at dksX7_sweep_2 7 rfl rfl)
theorem dX7_sweep_58 : decode cX7_sweep 58 = .ok (.istore_n 2, 1) := dk_61 (dk_at dksX7_sweep_2 10 rfl rfl)
theorem dX7_sweep_59 : decode cX7_sweep 59 = .ok (.aload_n 0, 1) := dk_42 (dk_at dksX7_sweep_2 11 rfl rfl)
theorem dX7_sweep_60 : decode cX7_sweep 60 = .ok (.dup, 1) := dk_89 (dk_at dksX7_sweep_2 12 rfl rfl)
theorem dX7_sweep_61 : decode cX7_sweep 61 = .ok (.getfield 367, 3) := dk_180 1 111 (dk_at dksX7_sweep_2 13 rfl rfl)
theorem dX7_sweep_64 : decode cX7_sweep 64 = .ok (.iload_n 1, 1) := dk_27 (dk_at dksX7_sweep_2 16 rfl rfl)
theorem dX7_sweep_65 : decode cX7_sweep 65 = .ok (.iand, 1) := dk_126 (dk_at dksX7_sweep_2 17 rfl rfl)
theorem dX7_sweep_66 : decode cX7_sweep 66 = .ok (.putfield 367, 3) := dk_181 1 111 (dk_at dksX7_sweep_2 18 rfl rfl)
theorem dX7_sweep_69 : decode cX7_sweep 69 = .ok (.iload_n 2, 1) := dk_28 (dk_at dksX7_sweep_2 21 rfl rfl)
theorem dX7_sweep_70 : decode cX7_sweep 70 = .ok (.ireturn, 1) := dk_172 (dk_at dksX7_sweep_2 22 rfl rfl)
abbrev cX7_dropLayers : ByteArray := prog_17_method_86_code
def yX7_dropLayers : MethodName := ⟨RX7, "dropLayers", "()I"⟩
def dkwX7_dropLayers_4 : List UInt8 := [180, 0, 241, 27, 126, 181, 0, 241, 28, 172]
abbrev dktX7_dropLayers_4 : List UInt8 := dkwX7_dropLayers_4 ++ []
def dkwX7_dropLayers_3 : List UInt8 := [128, 60, 132, 2, 1, 167, 255, 232, 42, 180, 0, 241, 27, 2, 130, 126, 184, 1, 114, 61, 42, 89]
abbrev dktX7_dropLayers_3 : List UInt8 := dkwX7_dropLayers_3 ++ dktX7_dropLayers_4
def dkwX7_dropLayers_2 : List UInt8 := [167, 255, 220, 3, 61, 28, 42, 180, 1, 120, 162, 0, 22, 27, 42, 42, 180, 0, 177, 28, 46, 182, 1, 12]
abbrev dktX7_dropLayers_2 : List UInt8 := dkwX7_dropLayers_2 ++ dktX7_dropLayers_3
def dkwX7_dropLayers_1 : List UInt8 := [159, 0, 16, 42, 42, 180, 0, 53, 28, 46, 182, 1, 12, 167, 0, 4, 3, 128, 60, 132, 2, 1]
abbrev dktX7_dropLayers_1 : List UInt8 := dkwX7_dropLayers_1 ++ dktX7_dropLayers_2
def dkwX7_dropLayers_0 : List UInt8 := [42, 3, 181, 0, 189, 3, 60, 3, 61, 28, 16, 8, 162, 0, 36, 27, 42, 180, 0, 50, 28, 46, 2]
abbrev dktX7_dropLayers_0 : List UInt8 := dkwX7_dropLayers_0 ++ dktX7_dropLayers_1
theorem dksX7_dropLayers_0 : cX7_dropLayers.data.toList.drop 0 = dktX7_dropLayers_0 := by decide +kernel
theorem dksX7_dropLayers_1 : cX7_dropLayers.data.toList.drop 23 = dktX7_dropLayers_1 := dk_seg dksX7_dropLayers_0 23 rfl rfl
theorem dksX7_dropLayers_2 : cX7_dropLayers.data.toList.drop 45 = dktX7_dropLayers_2 := dk_seg dksX7_dropLayers_1 22 rfl rfl
theorem dksX7_dropLayers_3 : cX7_dropLayers.data.toList.drop 69 = dktX7_dropLayers_3 := dk_seg dksX7_dropLayers_2 24 rfl rfl
theorem dksX7_dropLayers_4 : cX7_dropLayers.data.toList.drop 91 = dktX7_dropLayers_4 := dk_seg dksX7_dropLayers_3 22 rfl rfl
theorem dX7_dropLayers_0 : decode cX7_dropLayers 0 = .ok (.aload_n 0, 1) := dk_42 (dk_at dksX7_dropLayers_0 0 rfl rfl)
theorem dX7_dropLayers_1 : decode cX7_dropLayers 1 = .ok (.iconst 0, 1) := dk_3 (dk_at dksX7_dropLayers_0 1 rfl rfl)
theorem dX7_dropLayers_2 : decode cX7_dropLayers 2 = .ok (.putfield 189, 3) := dk_181 0 189 (dk_at dksX7_dropLayers_0 2 rfl rfl)
theorem dX7_dropLayers_5 : decode cX7_dropLayers 5 = .ok (.iconst 0, 1) := dk_3 (dk_at dksX7_dropLayers_0 5 rfl rfl)
theorem dX7_dropLayers_6 : decode cX7_dropLayers 6 = .ok (.istore_n 1, 1) := dk_60 (dk_at dksX7_dropLayers_0 6 rfl rfl)
theorem dX7_dropLayers_7 : decode cX7_dropLayers 7 = .ok (.iconst 0, 1) := dk_3 (dk_at dksX7_dropLayers_0 7 rfl rfl)
theorem dX7_dropLayers_8 : decode cX7_dropLayers 8 = .ok (.istore_n 2, 1) := dk_61 (dk_at dksX7_dropLayers_0 8 rfl rfl)
theorem dX7_dropLayers_9 : decode cX7_dropLayers 9 = .ok (.iload_n 2, 1) := dk_28 (dk_at dksX7_dropLayers_0 9 rfl rfl)
theorem dX7_dropLayers_10 : decode cX7_dropLayers 10 = .ok (.bipush 8, 2) := dk_16 8 (dk_at dksX7_dropLayers_0 10 rfl rfl)
theorem dX7_dropLayers_12 : decode cX7_dropLayers 12 = .ok (.if_icmp .ge 36, 3) := dk_162 0 36 (dk_at dksX7_dropLayers_0 12 rfl rfl)
theorem dX7_dropLayers_15 : decode cX7_dropLayers 15 = .ok (.iload_n 1, 1) := dk_27 (dk_at dksX7_dropLayers_0 15 rfl rfl)
theorem dX7_dropLayers_16 : decode cX7_dropLayers 16 = .ok (.aload_n 0, 1) := dk_42 (dk_at dksX7_dropLayers_0 16 rfl rfl)
theorem dX7_dropLayers_17 : decode cX7_dropLayers 17 = .ok (.getfield 50, 3) := dk_180 0 50 (dk_at dksX7_dropLayers_0 17 rfl rfl)
theorem dX7_dropLayers_20 : decode cX7_dropLayers 20 = .ok (.iload_n 2, 1) := dk_28 (dk_at dksX7_dropLayers_0 20 rfl rfl)
theorem dX7_dropLayers_21 : decode cX7_dropLayers 21 = .ok (.iaload, 1) := dk_46 (dk_at dksX7_dropLayers_0 21 rfl rfl)
theorem dX7_dropLayers_22 : decode cX7_dropLayers 22 = .ok (.iconst (-1), 1) := dk_2 (dk_at dksX7_dropLayers_0 22 rfl rfl)
theorem dX7_dropLayers_23 : decode cX7_dropLayers 23 = .ok (.if_icmp .eq 16, 3) := dk_159 0 16 (dk_at dksX7_dropLayers_1 0 rfl rfl)
theorem dX7_dropLayers_26 : decode cX7_dropLayers 26 = .ok (.aload_n 0, 1) := dk_42 (dk_at dksX7_dropLayers_1 3 rfl rfl)
theorem dX7_dropLayers_27 : decode cX7_dropLayers 27 = .ok (.aload_n 0, 1) := dk_42 (dk_at dksX7_dropLayers_1 4 rfl rfl)
theorem dX7_dropLayers_28 : decode cX7_dropLayers 28 = .ok (.getfield 53, 3) := dk_180 0 53 (dk_at dksX7_dropLayers_1 5 rfl rfl)
theorem dX7_dropLayers_31 : decode cX7_dropLayers 31 = .ok (.iload_n 2, 1) := dk_28 (dk_at dksX7_dropLayers_1 8 rfl rfl)
theorem dX7_dropLayers_32 : decode cX7_dropLayers 32 = .ok (.iaload, 1) := dk_46 (dk_at dksX7_dropLayers_1 9 rfl rfl)
theorem dX7_dropLayers_33 : decode cX7_dropLayers 33 = .ok (.invokevirtual 268, 3) := dk_182 1 12 (dk_at dksX7_dropLayers_1 10 rfl rfl)
theorem dX7_dropLayers_36 : decode cX7_dropLayers 36 = .ok (.goto 4, 3) := dk_167 0 4 (dk_at dksX7_dropLayers_1 13 rfl rfl)
theorem dX7_dropLayers_39 : decode cX7_dropLayers 39 = .ok (.iconst 0, 1) := dk_3 (dk_at dksX7_dropLayers_1 16 rfl rfl)
theorem dX7_dropLayers_40 : decode cX7_dropLayers 40 = .ok (.ior, 1) := dk_128 (dk_at dksX7_dropLayers_1 17 rfl rfl)
theorem dX7_dropLayers_41 : decode cX7_dropLayers 41 = .ok (.istore_n 1, 1) := dk_60 (dk_at dksX7_dropLayers_1 18 rfl rfl)
theorem dX7_dropLayers_42 : decode cX7_dropLayers 42 = .ok (.iinc 2 1, 3) := dk_132 2 1 (dk_at dksX7_dropLayers_1 19 rfl rfl)
theorem dX7_dropLayers_45 : decode cX7_dropLayers 45 = .ok (.goto (-36), 3) := dk_167 255 220 (dk_at dksX7_dropLayers_2 0 rfl rfl)
theorem dX7_dropLayers_48 : decode cX7_dropLayers 48 = .ok (.iconst 0, 1) := dk_3 (dk_at dksX7_dropLayers_2 3 rfl rfl)
theorem dX7_dropLayers_49 : decode cX7_dropLayers 49 = .ok (.istore_n 2, 1) := dk_61 (dk_at dksX7_dropLayers_2 4 rfl rfl)
theorem dX7_dropLayers_50 : decode cX7_dropLayers 50 = .ok (.iload_n 2, 1) := dk_28 (dk_at dksX7_dropLayers_2 5 rfl rfl)
theorem dX7_dropLayers_51 : decode cX7_dropLayers 51 = .ok (.aload_n 0, 1) := dk_42 (dk_at dksX7_dropLayers_2 6 rfl rfl)
theorem dX7_dropLayers_52 : decode cX7_dropLayers 52 = .ok (.getfield 376, 3) := dk_180 1 120 (dk_at dksX7_dropLayers_2 7 rfl rfl)
theorem dX7_dropLayers_55 : decode cX7_dropLayers 55 = .ok (.if_icmp .ge 22, 3) := dk_162 0 22 (dk_at dksX7_dropLayers_2 10 rfl rfl)
theorem dX7_dropLayers_58 : decode cX7_dropLayers 58 = .ok (.iload_n 1, 1) := dk_27 (dk_at dksX7_dropLayers_2 13 rfl rfl)
theorem dX7_dropLayers_59 : decode cX7_dropLayers 59 = .ok (.aload_n 0, 1) := dk_42 (dk_at dksX7_dropLayers_2 14 rfl rfl)
theorem dX7_dropLayers_60 : decode cX7_dropLayers 60 = .ok (.aload_n 0, 1) := dk_42 (dk_at dksX7_dropLayers_2 15 rfl rfl)
theorem dX7_dropLayers_61 : decode cX7_dropLayers 61 = .ok (.getfield 177, 3) := dk_180 0 177 (dk_at dksX7_dropLayers_2 16 rfl rfl)
theorem dX7_dropLayers_64 : decode cX7_dropLayers 64 = .ok (.iload_n 2, 1) := dk_28 (dk_at dksX7_dropLayers_2 19 rfl rfl)
theorem dX7_dropLayers_65 : decode cX7_dropLayers 65 = .ok (.iaload, 1) := dk_46 (dk_at dksX7_dropLayers_2 20 rfl rfl)
theorem dX7_dropLayers_66 : decode cX7_dropLayers 66 = .ok (.invokevirtual 268, 3) := dk_182 1 12 (dk_at dksX7_dropLayers_2 21 rfl rfl)
theorem dX7_dropLayers_69 : decode cX7_dropLayers 69 = .ok (.ior, 1) := dk_128 (dk_at dksX7_dropLayers_3 0 rfl rfl)
theorem dX7_dropLayers_70 : decode cX7_dropLayers 70 = .ok (.istore_n 1, 1) := dk_60 (dk_at dksX7_dropLayers_3 1 rfl rfl)
theorem dX7_dropLayers_71 : decode cX7_dropLayers 71 = .ok (.iinc 2 1, 3) := dk_132 2 1 (dk_at dksX7_dropLayers_3 2 rfl rfl)
theorem dX7_dropLayers_74 : decode cX7_dropLayers 74 = .ok (.goto (-24), 3) := dk_167 255 232 (dk_at dksX7_dropLayers_3 5 rfl rfl)
theorem dX7_dropLayers_77 : decode cX7_dropLayers 77 = .ok (.aload_n 0, 1) := dk_42 (dk_at dksX7_dropLayers_3 8 rfl rfl)
theorem dX7_dropLayers_78 : decode cX7_dropLayers 78 = .ok (.getfield 241, 3) := dk_180 0 241 (dk_at dksX7_dropLayers_3 9 rfl rfl)
theorem dX7_dropLayers_81 : decode cX7_dropLayers 81 = .ok (.iload_n 1, 1) := dk_27 (dk_at dksX7_dropLayers_3 12 rfl rfl)
theorem dX7_dropLayers_82 : decode cX7_dropLayers 82 = .ok (.iconst (-1), 1) := dk_2 (dk_at dksX7_dropLayers_3 13 rfl rfl)
theorem dX7_dropLayers_83 : decode cX7_dropLayers 83 = .ok (.ixor, 1) := dk_130 (dk_at dksX7_dropLayers_3 14 rfl rfl)
theorem dX7_dropLayers_84 : decode cX7_dropLayers 84 = .ok (.iand, 1) := dk_126 (dk_at dksX7_dropLayers_3 15 rfl rfl)
theorem dX7_dropLayers_85 : decode cX7_dropLayers 85 = .ok (.invokestatic 370, 3) := dk_184 1 114 (dk_at dksX7_dropLayers_3 16 rfl rfl)
theorem dX7_dropLayers_88 : decode cX7_dropLayers 88 = .ok (.istore_n 2, 1) := dk_61 (dk_at dksX7_dropLayers_3 19 rfl rfl)
theorem dX7_dropLayers_89 : decode cX7_dropLayers 89 = .ok (.aload_n 0, 1) := dk_42 (dk_at dksX7_dropLayers_3 20 rfl rfl)
theorem dX7_dropLayers_90 : decode cX7_dropLayers 90 = .ok (.dup, 1) := dk_89 (dk_at dksX7_dropLayers_3 21 rfl rfl)
theorem dX7_dropLayers_91 : decode cX7_dropLayers 91 = .ok (.getfield 241, 3) := dk_180 0 241 (dk_at dksX7_dropLayers_4 0 rfl rfl)
theorem dX7_dropLayers_94 : decode cX7_dropLayers 94 = .ok (.iload_n 1, 1) := dk_27 (dk_at dksX7_dropLayers_4 3 rfl rfl)
theorem dX7_dropLayers_95 : decode cX7_dropLayers 95 = .ok (.iand, 1) := dk_126 (dk_at dksX7_dropLayers_4 4 rfl rfl)
theorem dX7_dropLayers_96 : decode cX7_dropLayers 96 = .ok (.putfield 241, 3) := dk_181 0 241 (dk_at dksX7_dropLayers_4 5 rfl rfl)
theorem dX7_dropLayers_99 : decode cX7_dropLayers 99 = .ok (.iload_n 2, 1) := dk_28 (dk_at dksX7_dropLayers_4 8 rfl rfl)
theorem dX7_dropLayers_100 : decode cX7_dropLayers 100 = .ok (.ireturn, 1) := dk_172 (dk_at dksX7_dropLayers_4 9 rfl rfl)
abbrev cX7_layers : ByteArray := prog_17_method_87_code
def yX7_layers : MethodName := ⟨RX7, "layers", "(Z)I"⟩
def dkwX7_layers_0 : List UInt8 := [42, 3, 181, 0, 189, 27, 153, 0, 10, 42, 180, 0, 241, 167, 0, 7, 42, 180, 1, 111, 172]
abbrev dktX7_layers_0 : List UInt8 := dkwX7_layers_0 ++ []
theorem dksX7_layers_0 : cX7_layers.data.toList.drop 0 = dktX7_layers_0 := by decide +kernel
theorem dX7_layers_0 : decode cX7_layers 0 = .ok (.aload_n 0, 1) := dk_42 (dk_at dksX7_layers_0 0 rfl rfl)
theorem dX7_layers_1 : decode cX7_layers 1 = .ok (.iconst 0, 1) := dk_3 (dk_at dksX7_layers_0 1 rfl rfl)
theorem dX7_layers_2 : decode cX7_layers 2 = .ok (.putfield 189, 3) := dk_181 0 189 (dk_at dksX7_layers_0 2 rfl rfl)
theorem dX7_layers_5 : decode cX7_layers 5 = .ok (.iload_n 1, 1) := dk_27 (dk_at dksX7_layers_0 5 rfl rfl)
theorem dX7_layers_6 : decode cX7_layers 6 = .ok (.ifCond .eq 10, 3) := dk_153 0 10 (dk_at dksX7_layers_0 6 rfl rfl)
theorem dX7_layers_9 : decode cX7_layers 9 = .ok (.aload_n 0, 1) := dk_42 (dk_at dksX7_layers_0 9 rfl rfl)
theorem dX7_layers_10 : decode cX7_layers 10 = .ok (.getfield 241, 3) := dk_180 0 241 (dk_at dksX7_layers_0 10 rfl rfl)
theorem dX7_layers_13 : decode cX7_layers 13 = .ok (.goto 7, 3) := dk_167 0 7 (dk_at dksX7_layers_0 13 rfl rfl)
theorem dX7_layers_16 : decode cX7_layers 16 = .ok (.aload_n 0, 1) := dk_42 (dk_at dksX7_layers_0 16 rfl rfl)
theorem dX7_layers_17 : decode cX7_layers 17 = .ok (.getfield 367, 3) := dk_180 1 111 (dk_at dksX7_layers_0 17 rfl rfl)
theorem dX7_layers_20 : decode cX7_layers 20 = .ok (.ireturn, 1) := dk_172 (dk_at dksX7_layers_0 20 rfl rfl)
abbrev cX7_service : ByteArray := prog_17_method_88_code
def yX7_service : MethodName := ⟨RX7, "service", "(I)I"⟩
def dkwX7_service_3 : List UInt8 := [180, 1, 120, 4, 100, 172]
abbrev dktX7_service_3 : List UInt8 := dkwX7_service_3 ++ []
def dkwX7_service_2 : List UInt8 := [27, 79, 42, 180, 0, 180, 42, 180, 1, 120, 2, 79, 42, 89, 180, 1, 120, 4, 96, 181, 1, 120, 42]
abbrev dktX7_service_2 : List UInt8 := dkwX7_service_2 ++ dktX7_service_3
def dkwX7_service_1 : List UInt8 := [167, 0, 4, 3, 181, 0, 189, 42, 180, 0, 189, 158, 0, 5, 3, 172, 42, 180, 0, 174, 42, 180, 1, 120]
abbrev dktX7_service_1 : List UInt8 := dkwX7_service_1 ++ dktX7_service_2
def dkwX7_service_0 : List UInt8 := [42, 27, 3, 16, 9, 184, 0, 192, 154, 0, 7, 4, 167, 0, 16, 42, 180, 1, 120, 6, 160, 0, 7, 5]
abbrev dktX7_service_0 : List UInt8 := dkwX7_service_0 ++ dktX7_service_1
theorem dksX7_service_0 : cX7_service.data.toList.drop 0 = dktX7_service_0 := by decide +kernel
theorem dksX7_service_1 : cX7_service.data.toList.drop 24 = dktX7_service_1 := dk_seg dksX7_service_0 24 rfl rfl
theorem dksX7_service_2 : cX7_service.data.toList.drop 48 = dktX7_service_2 := dk_seg dksX7_service_1 24 rfl rfl
theorem dksX7_service_3 : cX7_service.data.toList.drop 71 = dktX7_service_3 := dk_seg dksX7_service_2 23 rfl rfl
theorem dX7_service_0 : decode cX7_service 0 = .ok (.aload_n 0, 1) := dk_42 (dk_at dksX7_service_0 0 rfl rfl)
theorem dX7_service_1 : decode cX7_service 1 = .ok (.iload_n 1, 1) := dk_27 (dk_at dksX7_service_0 1 rfl rfl)
theorem dX7_service_2 : decode cX7_service 2 = .ok (.iconst 0, 1) := dk_3 (dk_at dksX7_service_0 2 rfl rfl)
theorem dX7_service_3 : decode cX7_service 3 = .ok (.bipush 9, 2) := dk_16 9 (dk_at dksX7_service_0 3 rfl rfl)
theorem dX7_service_5 : decode cX7_service 5 = .ok (.invokestatic 192, 3) := dk_184 0 192 (dk_at dksX7_service_0 5 rfl rfl)
theorem dX7_service_8 : decode cX7_service 8 = .ok (.ifCond .ne 7, 3) := dk_154 0 7 (dk_at dksX7_service_0 8 rfl rfl)
theorem dX7_service_11 : decode cX7_service 11 = .ok (.iconst 1, 1) := dk_4 (dk_at dksX7_service_0 11 rfl rfl)
theorem dX7_service_12 : decode cX7_service 12 = .ok (.goto 16, 3) := dk_167 0 16 (dk_at dksX7_service_0 12 rfl rfl)
theorem dX7_service_15 : decode cX7_service 15 = .ok (.aload_n 0, 1) := dk_42 (dk_at dksX7_service_0 15 rfl rfl)
theorem dX7_service_16 : decode cX7_service 16 = .ok (.getfield 376, 3) := dk_180 1 120 (dk_at dksX7_service_0 16 rfl rfl)
theorem dX7_service_19 : decode cX7_service 19 = .ok (.iconst 3, 1) := dk_6 (dk_at dksX7_service_0 19 rfl rfl)
theorem dX7_service_20 : decode cX7_service 20 = .ok (.if_icmp .ne 7, 3) := dk_160 0 7 (dk_at dksX7_service_0 20 rfl rfl)
theorem dX7_service_23 : decode cX7_service 23 = .ok (.iconst 2, 1) := dk_5 (dk_at dksX7_service_0 23 rfl rfl)
theorem dX7_service_24 : decode cX7_service 24 = .ok (.goto 4, 3) := dk_167 0 4 (dk_at dksX7_service_1 0 rfl rfl)
theorem dX7_service_27 : decode cX7_service 27 = .ok (.iconst 0, 1) := dk_3 (dk_at dksX7_service_1 3 rfl rfl)
theorem dX7_service_28 : decode cX7_service 28 = .ok (.putfield 189, 3) := dk_181 0 189 (dk_at dksX7_service_1 4 rfl rfl)
theorem dX7_service_31 : decode cX7_service 31 = .ok (.aload_n 0, 1) := dk_42 (dk_at dksX7_service_1 7 rfl rfl)
theorem dX7_service_32 : decode cX7_service 32 = .ok (.getfield 189, 3) := dk_180 0 189 (dk_at dksX7_service_1 8 rfl rfl)
theorem dX7_service_35 : decode cX7_service 35 = .ok (.ifCond .le 5, 3) := dk_158 0 5 (dk_at dksX7_service_1 11 rfl rfl)
theorem dX7_service_38 : decode cX7_service 38 = .ok (.iconst 0, 1) := dk_3 (dk_at dksX7_service_1 14 rfl rfl)
theorem dX7_service_39 : decode cX7_service 39 = .ok (.ireturn, 1) := dk_172 (dk_at dksX7_service_1 15 rfl rfl)
theorem dX7_service_40 : decode cX7_service 40 = .ok (.aload_n 0, 1) := dk_42 (dk_at dksX7_service_1 16 rfl rfl)
theorem dX7_service_41 : decode cX7_service 41 = .ok (.getfield 174, 3) := dk_180 0 174 (dk_at dksX7_service_1 17 rfl rfl)
theorem dX7_service_44 : decode cX7_service 44 = .ok (.aload_n 0, 1) := dk_42 (dk_at dksX7_service_1 20 rfl rfl)
theorem dX7_service_45 : decode cX7_service 45 = .ok (.getfield 376, 3) := dk_180 1 120 (dk_at dksX7_service_1 21 rfl rfl)
theorem dX7_service_48 : decode cX7_service 48 = .ok (.iload_n 1, 1) := dk_27 (dk_at dksX7_service_2 0 rfl rfl)
theorem dX7_service_49 : decode cX7_service 49 = .ok (.iastore, 1) := dk_79 (dk_at dksX7_service_2 1 rfl rfl)
theorem dX7_service_50 : decode cX7_service 50 = .ok (.aload_n 0, 1) := dk_42 (dk_at dksX7_service_2 2 rfl rfl)
theorem dX7_service_51 : decode cX7_service 51 = .ok (.getfield 180, 3) := dk_180 0 180 (dk_at dksX7_service_2 3 rfl rfl)
theorem dX7_service_54 : decode cX7_service 54 = .ok (.aload_n 0, 1) := dk_42 (dk_at dksX7_service_2 6 rfl rfl)
theorem dX7_service_55 : decode cX7_service 55 = .ok (.getfield 376, 3) := dk_180 1 120 (dk_at dksX7_service_2 7 rfl rfl)
theorem dX7_service_58 : decode cX7_service 58 = .ok (.iconst (-1), 1) := dk_2 (dk_at dksX7_service_2 10 rfl rfl)
theorem dX7_service_59 : decode cX7_service 59 = .ok (.iastore, 1) := dk_79 (dk_at dksX7_service_2 11 rfl rfl)
theorem dX7_service_60 : decode cX7_service 60 = .ok (.aload_n 0, 1) := dk_42 (dk_at dksX7_service_2 12 rfl rfl)
theorem dX7_service_61 : decode cX7_service 61 = .ok (.dup, 1) := dk_89 (dk_at dksX7_service_2 13 rfl rfl)
theorem dX7_service_62 : decode cX7_service 62 = .ok (.getfield 376, 3) := dk_180 1 120 (dk_at dksX7_service_2 14 rfl rfl)
theorem dX7_service_65 : decode cX7_service 65 = .ok (.iconst 1, 1) := dk_4 (dk_at dksX7_service_2 17 rfl rfl)
theorem dX7_service_66 : decode cX7_service 66 = .ok (.iadd, 1) := dk_96 (dk_at dksX7_service_2 18 rfl rfl)
theorem dX7_service_67 : decode cX7_service 67 = .ok (.putfield 376, 3) := dk_181 1 120 (dk_at dksX7_service_2 19 rfl rfl)
theorem dX7_service_70 : decode cX7_service 70 = .ok (.aload_n 0, 1) := dk_42 (dk_at dksX7_service_2 22 rfl rfl)
theorem dX7_service_71 : decode cX7_service 71 = .ok (.getfield 376, 3) := dk_180 1 120 (dk_at dksX7_service_3 0 rfl rfl)
theorem dX7_service_74 : decode cX7_service 74 = .ok (.iconst 1, 1) := dk_4 (dk_at dksX7_service_3 3 rfl rfl)
theorem dX7_service_75 : decode cX7_service 75 = .ok (.isub, 1) := dk_100 (dk_at dksX7_service_3 4 rfl rfl)
theorem dX7_service_76 : decode cX7_service 76 = .ok (.ireturn, 1) := dk_172 (dk_at dksX7_service_3 5 rfl rfl)
abbrev cX7_wish : ByteArray := prog_17_method_89_code
def yX7_wish : MethodName := ⟨RX7, "wish", "(III)V"⟩
def dkwX7_wish_3 : List UInt8 := [46, 79, 42, 180, 0, 177, 27, 28, 79, 42, 180, 0, 186, 27, 3, 79, 42, 180, 0, 183, 27, 29, 79, 177]
abbrev dktX7_wish_3 : List UInt8 := dkwX7_wish_3 ++ []
def dkwX7_wish_2 : List UInt8 := [158, 0, 4, 177, 28, 42, 180, 0, 177, 27, 46, 159, 0, 29, 42, 180, 0, 180, 27, 42, 180, 0, 177, 27]
abbrev dktX7_wish_2 : List UInt8 := dkwX7_wish_2 ++ dktX7_wish_3
def dkwX7_wish_1 : List UInt8 := [167, 0, 17, 29, 3, 7, 184, 0, 192, 154, 0, 7, 5, 167, 0, 4, 3, 181, 0, 189, 42, 180, 0, 189]
abbrev dktX7_wish_1 : List UInt8 := dkwX7_wish_1 ++ dktX7_wish_2
def dkwX7_wish_0 : List UInt8 := [42, 27, 3, 42, 180, 1, 120, 4, 100, 184, 0, 192, 153, 0, 11, 42, 28, 182, 0, 250, 154, 0, 7, 4]
abbrev dktX7_wish_0 : List UInt8 := dkwX7_wish_0 ++ dktX7_wish_1
theorem dksX7_wish_0 : cX7_wish.data.toList.drop 0 = dktX7_wish_0 := by decide +kernel
theorem dksX7_wish_1 : cX7_wish.data.toList.drop 24 = dktX7_wish_1 := dk_seg dksX7_wish_0 24 rfl rfl
theorem dksX7_wish_2 : cX7_wish.data.toList.drop 48 = dktX7_wish_2 := dk_seg dksX7_wish_1 24 rfl rfl
theorem dksX7_wish_3 : cX7_wish.data.toList.drop 72 = dktX7_wish_3 := dk_seg dksX7_wish_2 24 rfl rfl
theorem dX7_wish_0 : decode cX7_wish 0 = .ok (.aload_n 0, 1) := dk_42 (dk_at dksX7_wish_0 0 rfl rfl)
theorem dX7_wish_1 : decode cX7_wish 1 = .ok (.iload_n 1, 1) := dk_27 (dk_at dksX7_wish_0 1 rfl rfl)
theorem dX7_wish_2 : decode cX7_wish 2 = .ok (.iconst 0, 1) := dk_3 (dk_at dksX7_wish_0 2 rfl rfl)
theorem dX7_wish_3 : decode cX7_wish 3 = .ok (.aload_n 0, 1) := dk_42 (dk_at dksX7_wish_0 3 rfl rfl)
theorem dX7_wish_4 : decode cX7_wish 4 = .ok (.getfield 376, 3) := dk_180 1 120 (dk_at dksX7_wish_0 4 rfl rfl)
theorem dX7_wish_7 : decode cX7_wish 7 = .ok (.iconst 1, 1) := dk_4 (dk_at dksX7_wish_0 7 rfl rfl)
theorem dX7_wish_8 : decode cX7_wish 8 = .ok (.isub, 1) := dk_100 (dk_at dksX7_wish_0 8 rfl rfl)
theorem dX7_wish_9 : decode cX7_wish 9 = .ok (.invokestatic 192, 3) := dk_184 0 192 (dk_at dksX7_wish_0 9 rfl rfl)
theorem dX7_wish_12 : decode cX7_wish 12 = .ok (.ifCond .eq 11, 3) := dk_153 0 11 (dk_at dksX7_wish_0 12 rfl rfl)
theorem dX7_wish_15 : decode cX7_wish 15 = .ok (.aload_n 0, 1) := dk_42 (dk_at dksX7_wish_0 15 rfl rfl)
theorem dX7_wish_16 : decode cX7_wish 16 = .ok (.iload_n 2, 1) := dk_28 (dk_at dksX7_wish_0 16 rfl rfl)
theorem dX7_wish_17 : decode cX7_wish 17 = .ok (.invokevirtual 250, 3) := dk_182 0 250 (dk_at dksX7_wish_0 17 rfl rfl)
theorem dX7_wish_20 : decode cX7_wish 20 = .ok (.ifCond .ne 7, 3) := dk_154 0 7 (dk_at dksX7_wish_0 20 rfl rfl)
theorem dX7_wish_23 : decode cX7_wish 23 = .ok (.iconst 1, 1) := dk_4 (dk_at dksX7_wish_0 23 rfl rfl)
theorem dX7_wish_24 : decode cX7_wish 24 = .ok (.goto 17, 3) := dk_167 0 17 (dk_at dksX7_wish_1 0 rfl rfl)
theorem dX7_wish_27 : decode cX7_wish 27 = .ok (.iload_n 3, 1) := dk_29 (dk_at dksX7_wish_1 3 rfl rfl)
theorem dX7_wish_28 : decode cX7_wish 28 = .ok (.iconst 0, 1) := dk_3 (dk_at dksX7_wish_1 4 rfl rfl)
theorem dX7_wish_29 : decode cX7_wish 29 = .ok (.iconst 4, 1) := dk_7 (dk_at dksX7_wish_1 5 rfl rfl)
theorem dX7_wish_30 : decode cX7_wish 30 = .ok (.invokestatic 192, 3) := dk_184 0 192 (dk_at dksX7_wish_1 6 rfl rfl)
theorem dX7_wish_33 : decode cX7_wish 33 = .ok (.ifCond .ne 7, 3) := dk_154 0 7 (dk_at dksX7_wish_1 9 rfl rfl)
theorem dX7_wish_36 : decode cX7_wish 36 = .ok (.iconst 2, 1) := dk_5 (dk_at dksX7_wish_1 12 rfl rfl)
theorem dX7_wish_37 : decode cX7_wish 37 = .ok (.goto 4, 3) := dk_167 0 4 (dk_at dksX7_wish_1 13 rfl rfl)
theorem dX7_wish_40 : decode cX7_wish 40 = .ok (.iconst 0, 1) := dk_3 (dk_at dksX7_wish_1 16 rfl rfl)
theorem dX7_wish_41 : decode cX7_wish 41 = .ok (.putfield 189, 3) := dk_181 0 189 (dk_at dksX7_wish_1 17 rfl rfl)
theorem dX7_wish_44 : decode cX7_wish 44 = .ok (.aload_n 0, 1) := dk_42 (dk_at dksX7_wish_1 20 rfl rfl)
theorem dX7_wish_45 : decode cX7_wish 45 = .ok (.getfield 189, 3) := dk_180 0 189 (dk_at dksX7_wish_1 21 rfl rfl)
theorem dX7_wish_48 : decode cX7_wish 48 = .ok (.ifCond .le 4, 3) := dk_158 0 4 (dk_at dksX7_wish_2 0 rfl rfl)
theorem dX7_wish_51 : decode cX7_wish 51 = .ok (.return_, 1) := dk_177 (dk_at dksX7_wish_2 3 rfl rfl)
theorem dX7_wish_52 : decode cX7_wish 52 = .ok (.iload_n 2, 1) := dk_28 (dk_at dksX7_wish_2 4 rfl rfl)
theorem dX7_wish_53 : decode cX7_wish 53 = .ok (.aload_n 0, 1) := dk_42 (dk_at dksX7_wish_2 5 rfl rfl)
theorem dX7_wish_54 : decode cX7_wish 54 = .ok (.getfield 177, 3) := dk_180 0 177 (dk_at dksX7_wish_2 6 rfl rfl)
theorem dX7_wish_57 : decode cX7_wish 57 = .ok (.iload_n 1, 1) := dk_27 (dk_at dksX7_wish_2 9 rfl rfl)
theorem dX7_wish_58 : decode cX7_wish 58 = .ok (.iaload, 1) := dk_46 (dk_at dksX7_wish_2 10 rfl rfl)
theorem dX7_wish_59 : decode cX7_wish 59 = .ok (.if_icmp .eq 29, 3) := dk_159 0 29 (dk_at dksX7_wish_2 11 rfl rfl)
theorem dX7_wish_62 : decode cX7_wish 62 = .ok (.aload_n 0, 1) := dk_42 (dk_at dksX7_wish_2 14 rfl rfl)
theorem dX7_wish_63 : decode cX7_wish 63 = .ok (.getfield 180, 3) := dk_180 0 180 (dk_at dksX7_wish_2 15 rfl rfl)
theorem dX7_wish_66 : decode cX7_wish 66 = .ok (.iload_n 1, 1) := dk_27 (dk_at dksX7_wish_2 18 rfl rfl)
theorem dX7_wish_67 : decode cX7_wish 67 = .ok (.aload_n 0, 1) := dk_42 (dk_at dksX7_wish_2 19 rfl rfl)
theorem dX7_wish_68 : decode cX7_wish 68 = .ok (.getfield 177, 3) := dk_180 0 177 (dk_at dksX7_wish_2 20 rfl rfl)
theorem dX7_wish_71 : decode cX7_wish 71 = .ok (.iload_n 1, 1) := dk_27 (dk_at dksX7_wish_2 23 rfl rfl)
theorem dX7_wish_72 : decode cX7_wish 72 = .ok (.iaload, 1) := dk_46 (dk_at dksX7_wish_3 0 rfl rfl)
theorem dX7_wish_73 : decode cX7_wish 73 = .ok (.iastore, 1) := dk_79 (dk_at dksX7_wish_3 1 rfl rfl)
theorem dX7_wish_74 : decode cX7_wish 74 = .ok (.aload_n 0, 1) := dk_42 (dk_at dksX7_wish_3 2 rfl rfl)
theorem dX7_wish_75 : decode cX7_wish 75 = .ok (.getfield 177, 3) := dk_180 0 177 (dk_at dksX7_wish_3 3 rfl rfl)
theorem dX7_wish_78 : decode cX7_wish 78 = .ok (.iload_n 1, 1) := dk_27 (dk_at dksX7_wish_3 6 rfl rfl)
theorem dX7_wish_79 : decode cX7_wish 79 = .ok (.iload_n 2, 1) := dk_28 (dk_at dksX7_wish_3 7 rfl rfl)
theorem dX7_wish_80 : decode cX7_wish 80 = .ok (.iastore, 1) := dk_79 (dk_at dksX7_wish_3 8 rfl rfl)
theorem dX7_wish_81 : decode cX7_wish 81 = .ok (.aload_n 0, 1) := dk_42 (dk_at dksX7_wish_3 9 rfl rfl)
theorem dX7_wish_82 : decode cX7_wish 82 = .ok (.getfield 186, 3) := dk_180 0 186 (dk_at dksX7_wish_3 10 rfl rfl)
theorem dX7_wish_85 : decode cX7_wish 85 = .ok (.iload_n 1, 1) := dk_27 (dk_at dksX7_wish_3 13 rfl rfl)
theorem dX7_wish_86 : decode cX7_wish 86 = .ok (.iconst 0, 1) := dk_3 (dk_at dksX7_wish_3 14 rfl rfl)
theorem dX7_wish_87 : decode cX7_wish 87 = .ok (.iastore, 1) := dk_79 (dk_at dksX7_wish_3 15 rfl rfl)
theorem dX7_wish_88 : decode cX7_wish 88 = .ok (.aload_n 0, 1) := dk_42 (dk_at dksX7_wish_3 16 rfl rfl)
theorem dX7_wish_89 : decode cX7_wish 89 = .ok (.getfield 183, 3) := dk_180 0 183 (dk_at dksX7_wish_3 17 rfl rfl)
theorem dX7_wish_92 : decode cX7_wish 92 = .ok (.iload_n 1, 1) := dk_27 (dk_at dksX7_wish_3 20 rfl rfl)
theorem dX7_wish_93 : decode cX7_wish 93 = .ok (.iload_n 3, 1) := dk_29 (dk_at dksX7_wish_3 21 rfl rfl)
theorem dX7_wish_94 : decode cX7_wish 94 = .ok (.iastore, 1) := dk_79 (dk_at dksX7_wish_3 22 rfl rfl)
theorem dX7_wish_95 : decode cX7_wish 95 = .ok (.return_, 1) := dk_177 (dk_at dksX7_wish_3 23 rfl rfl)
abbrev cX7_serviceHas : ByteArray := prog_17_method_91_code
def yX7_serviceHas : MethodName := ⟨RX7, "serviceHas", "(II)I"⟩
def dkwX7_serviceHas_4 : List UInt8 := [180, 0, 186, 27, 46, 167, 0, 18, 42, 27, 28, 8, 160, 0, 7, 4, 167, 0, 4, 3, 182, 1, 123, 172]
abbrev dktX7_serviceHas_4 : List UInt8 := dkwX7_serviceHas_4 ++ []
def dkwX7_serviceHas_3 : List UInt8 := [167, 0, 46, 28, 5, 160, 0, 12, 42, 180, 0, 183, 27, 46, 167, 0, 32, 28, 6, 160, 0, 12, 42]
abbrev dktX7_serviceHas_3 : List UInt8 := dkwX7_serviceHas_3 ++ dktX7_serviceHas_4
def dkwX7_serviceHas_2 : List UInt8 := [154, 0, 12, 42, 180, 0, 177, 27, 46, 167, 0, 60, 28, 4, 160, 0, 12, 42, 180, 0, 180, 27, 46]
abbrev dktX7_serviceHas_2 : List UInt8 := dkwX7_serviceHas_2 ++ dktX7_serviceHas_3
def dkwX7_serviceHas_1 : List UInt8 := [184, 0, 192, 154, 0, 7, 5, 167, 0, 4, 3, 181, 0, 189, 42, 180, 0, 189, 158, 0, 5, 3, 172, 28]
abbrev dktX7_serviceHas_1 : List UInt8 := dkwX7_serviceHas_1 ++ dktX7_serviceHas_2
def dkwX7_serviceHas_0 : List UInt8 := [42, 27, 3, 42, 180, 1, 120, 4, 100, 184, 0, 192, 154, 0, 7, 4, 167, 0, 17, 28, 3, 8]
abbrev dktX7_serviceHas_0 : List UInt8 := dkwX7_serviceHas_0 ++ dktX7_serviceHas_1
theorem dksX7_serviceHas_0 : cX7_serviceHas.data.toList.drop 0 = dktX7_serviceHas_0 := by decide +kernel
theorem dksX7_serviceHas_1 : cX7_serviceHas.data.toList.drop 22 = dktX7_serviceHas_1 := dk_seg dksX7_serviceHas_0 22 rfl rfl
theorem dksX7_serviceHas_2 : cX7_serviceHas.data.toList.drop 46 = dktX7_serviceHas_2 := dk_seg dksX7_serviceHas_1 24 rfl rfl
theorem dksX7_serviceHas_3 : cX7_serviceHas.data.toList.drop 69 = dktX7_serviceHas_3 := dk_seg dksX7_serviceHas_2 23 rfl rfl
theorem dksX7_serviceHas_4 : cX7_serviceHas.data.toList.drop 92 = dktX7_serviceHas_4 := dk_seg dksX7_serviceHas_3 23 rfl rfl
theorem dX7_serviceHas_0 : decode cX7_serviceHas 0 = .ok (.aload_n 0, 1) := dk_42 (dk_at dksX7_serviceHas_0 0 rfl rfl)
theorem dX7_serviceHas_1 : decode cX7_serviceHas 1 = .ok (.iload_n 1, 1) := dk_27 (dk_at dksX7_serviceHas_0 1 rfl rfl)
theorem dX7_serviceHas_2 : decode cX7_serviceHas 2 = .ok (.iconst 0, 1) := dk_3 (dk_at dksX7_serviceHas_0 2 rfl rfl)
theorem dX7_serviceHas_3 : decode cX7_serviceHas 3 = .ok (.aload_n 0, 1) := dk_42 (dk_at dksX7_serviceHas_0 3 rfl rfl)
theorem dX7_serviceHas_4 : decode cX7_serviceHas 4 = .ok (.getfield 376, 3) := dk_180 1 120 (dk_at dksX7_serviceHas_0 4 rfl rfl)
theorem dX7_serviceHas_7 : decode cX7_serviceHas 7 = .ok (.iconst 1, 1) := dk_4 (dk_at dksX7_serviceHas_0 7 rfl rfl)
theorem dX7_serviceHas_8 : decode cX7_serviceHas 8 = .ok (.isub, 1) := dk_100 (dk_at dksX7_serviceHas_0 8 rfl rfl)
theorem dX7_serviceHas_9 : decode cX7_serviceHas 9 = .ok (.invokestatic 192, 3) := dk_184 0 192 (dk_at dksX7_serviceHas_0 9 rfl rfl)
theorem dX7_serviceHas_12 : decode cX7_serviceHas 12 = .ok (.ifCond .ne 7, 3) := dk_154 0 7 (dk_at dksX7_serviceHas_0 12 rfl rfl)
theorem dX7_serviceHas_15 : decode cX7_serviceHas 15 = .ok (.iconst 1, 1) := dk_4 (dk_at dksX7_serviceHas_0 15 rfl rfl)
theorem dX7_serviceHas_16 : decode cX7_serviceHas 16 = .ok (.goto 17, 3) := dk_167 0 17 (dk_at dksX7_serviceHas_0 16 rfl rfl)
theorem dX7_serviceHas_19 : decode cX7_serviceHas 19 = .ok (.iload_n 2, 1) := dk_28 (dk_at dksX7_serviceHas_0 19 rfl rfl)
theorem dX7_serviceHas_20 : decode cX7_serviceHas 20 = .ok (.iconst 0, 1) := dk_3 (dk_at dksX7_serviceHas_0 20 rfl rfl)
theorem dX7_serviceHas_21 : decode cX7_serviceHas 21 = .ok (.iconst 5, 1) := dk_8 (dk_at dksX7_serviceHas_0 21 rfl rfl)
theorem dX7_serviceHas_22 : decode cX7_serviceHas 22 = .ok (.invokestatic 192, 3) := dk_184 0 192 (dk_at dksX7_serviceHas_1 0 rfl rfl)
theorem dX7_serviceHas_25 : decode cX7_serviceHas 25 = .ok (.ifCond .ne 7, 3) := dk_154 0 7 (dk_at dksX7_serviceHas_1 3 rfl rfl)
theorem dX7_serviceHas_28 : decode cX7_serviceHas 28 = .ok (.iconst 2, 1) := dk_5 (dk_at dksX7_serviceHas_1 6 rfl rfl)
theorem dX7_serviceHas_29 : decode cX7_serviceHas 29 = .ok (.goto 4, 3) := dk_167 0 4 (dk_at dksX7_serviceHas_1 7 rfl rfl)
theorem dX7_serviceHas_32 : decode cX7_serviceHas 32 = .ok (.iconst 0, 1) := dk_3 (dk_at dksX7_serviceHas_1 10 rfl rfl)
theorem dX7_serviceHas_33 : decode cX7_serviceHas 33 = .ok (.putfield 189, 3) := dk_181 0 189 (dk_at dksX7_serviceHas_1 11 rfl rfl)
theorem dX7_serviceHas_36 : decode cX7_serviceHas 36 = .ok (.aload_n 0, 1) := dk_42 (dk_at dksX7_serviceHas_1 14 rfl rfl)
theorem dX7_serviceHas_37 : decode cX7_serviceHas 37 = .ok (.getfield 189, 3) := dk_180 0 189 (dk_at dksX7_serviceHas_1 15 rfl rfl)
theorem dX7_serviceHas_40 : decode cX7_serviceHas 40 = .ok (.ifCond .le 5, 3) := dk_158 0 5 (dk_at dksX7_serviceHas_1 18 rfl rfl)
theorem dX7_serviceHas_43 : decode cX7_serviceHas 43 = .ok (.iconst 0, 1) := dk_3 (dk_at dksX7_serviceHas_1 21 rfl rfl)
theorem dX7_serviceHas_44 : decode cX7_serviceHas 44 = .ok (.ireturn, 1) := dk_172 (dk_at dksX7_serviceHas_1 22 rfl rfl)
theorem dX7_serviceHas_45 : decode cX7_serviceHas 45 = .ok (.iload_n 2, 1) := dk_28 (dk_at dksX7_serviceHas_1 23 rfl rfl)
theorem dX7_serviceHas_46 : decode cX7_serviceHas 46 = .ok (.ifCond .ne 12, 3) := dk_154 0 12 (dk_at dksX7_serviceHas_2 0 rfl rfl)
theorem dX7_serviceHas_49 : decode cX7_serviceHas 49 = .ok (.aload_n 0, 1) := dk_42 (dk_at dksX7_serviceHas_2 3 rfl rfl)
theorem dX7_serviceHas_50 : decode cX7_serviceHas 50 = .ok (.getfield 177, 3) := dk_180 0 177 (dk_at dksX7_serviceHas_2 4 rfl rfl)
theorem dX7_serviceHas_53 : decode cX7_serviceHas 53 = .ok (.iload_n 1, 1) := dk_27 (dk_at dksX7_serviceHas_2 7 rfl rfl)
theorem dX7_serviceHas_54 : decode cX7_serviceHas 54 = .ok (.iaload, 1) := dk_46 (dk_at dksX7_serviceHas_2 8 rfl rfl)
theorem dX7_serviceHas_55 : decode cX7_serviceHas 55 = .ok (.goto 60, 3) := dk_167 0 60 (dk_at dksX7_serviceHas_2 9 rfl rfl)
theorem dX7_serviceHas_58 : decode cX7_serviceHas 58 = .ok (.iload_n 2, 1) := dk_28 (dk_at dksX7_serviceHas_2 12 rfl rfl)
theorem dX7_serviceHas_59 : decode cX7_serviceHas 59 = .ok (.iconst 1, 1) := dk_4 (dk_at dksX7_serviceHas_2 13 rfl rfl)
theorem dX7_serviceHas_60 : decode cX7_serviceHas 60 = .ok (.if_icmp .ne 12, 3) := dk_160 0 12 (dk_at dksX7_serviceHas_2 14 rfl rfl)
theorem dX7_serviceHas_63 : decode cX7_serviceHas 63 = .ok (.aload_n 0, 1) := dk_42 (dk_at dksX7_serviceHas_2 17 rfl rfl)
theorem dX7_serviceHas_64 : decode cX7_serviceHas 64 = .ok (.getfield 180, 3) := dk_180 0 180 (dk_at dksX7_serviceHas_2 18 rfl rfl)
theorem dX7_serviceHas_67 : decode cX7_serviceHas 67 = .ok (.iload_n 1, 1) := dk_27 (dk_at dksX7_serviceHas_2 21 rfl rfl)
theorem dX7_serviceHas_68 : decode cX7_serviceHas 68 = .ok (.iaload, 1) := dk_46 (dk_at dksX7_serviceHas_2 22 rfl rfl)
theorem dX7_serviceHas_69 : decode cX7_serviceHas 69 = .ok (.goto 46, 3) := dk_167 0 46 (dk_at dksX7_serviceHas_3 0 rfl rfl)
theorem dX7_serviceHas_72 : decode cX7_serviceHas 72 = .ok (.iload_n 2, 1) := dk_28 (dk_at dksX7_serviceHas_3 3 rfl rfl)
theorem dX7_serviceHas_73 : decode cX7_serviceHas 73 = .ok (.iconst 2, 1) := dk_5 (dk_at dksX7_serviceHas_3 4 rfl rfl)
theorem dX7_serviceHas_74 : decode cX7_serviceHas 74 = .ok (.if_icmp .ne 12, 3) := dk_160 0 12 (dk_at dksX7_serviceHas_3 5 rfl rfl)
theorem dX7_serviceHas_77 : decode cX7_serviceHas 77 = .ok (.aload_n 0, 1) := dk_42 (dk_at dksX7_serviceHas_3 8 rfl rfl)
theorem dX7_serviceHas_78 : decode cX7_serviceHas 78 = .ok (.getfield 183, 3) := dk_180 0 183 (dk_at dksX7_serviceHas_3 9 rfl rfl)
theorem dX7_serviceHas_81 : decode cX7_serviceHas 81 = .ok (.iload_n 1, 1) := dk_27 (dk_at dksX7_serviceHas_3 12 rfl rfl)
theorem dX7_serviceHas_82 : decode cX7_serviceHas 82 = .ok (.iaload, 1) := dk_46 (dk_at dksX7_serviceHas_3 13 rfl rfl)
theorem dX7_serviceHas_83 : decode cX7_serviceHas 83 = .ok (.goto 32, 3) := dk_167 0 32 (dk_at dksX7_serviceHas_3 14 rfl rfl)
theorem dX7_serviceHas_86 : decode cX7_serviceHas 86 = .ok (.iload_n 2, 1) := dk_28 (dk_at dksX7_serviceHas_3 17 rfl rfl)
theorem dX7_serviceHas_87 : decode cX7_serviceHas 87 = .ok (.iconst 3, 1) := dk_6 (dk_at dksX7_serviceHas_3 18 rfl rfl)
theorem dX7_serviceHas_88 : decode cX7_serviceHas 88 = .ok (.if_icmp .ne 12, 3) := dk_160 0 12 (dk_at dksX7_serviceHas_3 19 rfl rfl)
theorem dX7_serviceHas_91 : decode cX7_serviceHas 91 = .ok (.aload_n 0, 1) := dk_42 (dk_at dksX7_serviceHas_3 22 rfl rfl)
theorem dX7_serviceHas_92 : decode cX7_serviceHas 92 = .ok (.getfield 186, 3) := dk_180 0 186 (dk_at dksX7_serviceHas_4 0 rfl rfl)
theorem dX7_serviceHas_95 : decode cX7_serviceHas 95 = .ok (.iload_n 1, 1) := dk_27 (dk_at dksX7_serviceHas_4 3 rfl rfl)
theorem dX7_serviceHas_96 : decode cX7_serviceHas 96 = .ok (.iaload, 1) := dk_46 (dk_at dksX7_serviceHas_4 4 rfl rfl)
theorem dX7_serviceHas_97 : decode cX7_serviceHas 97 = .ok (.goto 18, 3) := dk_167 0 18 (dk_at dksX7_serviceHas_4 5 rfl rfl)
theorem dX7_serviceHas_100 : decode cX7_serviceHas 100 = .ok (.aload_n 0, 1) := dk_42 (dk_at dksX7_serviceHas_4 8 rfl rfl)
theorem dX7_serviceHas_101 : decode cX7_serviceHas 101 = .ok (.iload_n 1, 1) := dk_27 (dk_at dksX7_serviceHas_4 9 rfl rfl)
theorem dX7_serviceHas_102 : decode cX7_serviceHas 102 = .ok (.iload_n 2, 1) := dk_28 (dk_at dksX7_serviceHas_4 10 rfl rfl)
theorem dX7_serviceHas_103 : decode cX7_serviceHas 103 = .ok (.iconst 5, 1) := dk_8 (dk_at dksX7_serviceHas_4 11 rfl rfl)
theorem dX7_serviceHas_104 : decode cX7_serviceHas 104 = .ok (.if_icmp .ne 7, 3) := dk_160 0 7 (dk_at dksX7_serviceHas_4 12 rfl rfl)
theorem dX7_serviceHas_107 : decode cX7_serviceHas 107 = .ok (.iconst 1, 1) := dk_4 (dk_at dksX7_serviceHas_4 15 rfl rfl)
theorem dX7_serviceHas_108 : decode cX7_serviceHas 108 = .ok (.goto 4, 3) := dk_167 0 4 (dk_at dksX7_serviceHas_4 16 rfl rfl)
theorem dX7_serviceHas_111 : decode cX7_serviceHas 111 = .ok (.iconst 0, 1) := dk_3 (dk_at dksX7_serviceHas_4 19 rfl rfl)
theorem dX7_serviceHas_112 : decode cX7_serviceHas 112 = .ok (.invokevirtual 379, 3) := dk_182 1 123 (dk_at dksX7_serviceHas_4 20 rfl rfl)
theorem dX7_serviceHas_115 : decode cX7_serviceHas 115 = .ok (.ireturn, 1) := dk_172 (dk_at dksX7_serviceHas_4 23 rfl rfl)
abbrev cX7_has : ByteArray := prog_17_method_90_code
def yX7_has : MethodName := ⟨RX7, "has", "(IZ)I"⟩
def dkwX7_has_2 : List UInt8 := [180, 0, 177, 27, 46, 160, 0, 7, 4, 167, 0, 4, 3, 96, 62, 132, 4, 1, 167, 255, 196, 29, 172]
abbrev dktX7_has_2 : List UInt8 := dkwX7_has_2 ++ []
def dkwX7_has_1 : List UInt8 := [42, 180, 0, 59, 21, 4, 46, 27, 160, 0, 27, 28, 153, 0, 19, 42, 180, 0, 53, 21, 4, 46, 42]
abbrev dktX7_has_1 : List UInt8 := dkwX7_has_1 ++ dktX7_has_2
def dkwX7_has_0 : List UInt8 := [3, 62, 3, 54, 4, 21, 4, 16, 8, 162, 0, 59, 29, 42, 180, 0, 50, 21, 4, 46, 2, 159, 0, 38]
abbrev dktX7_has_0 : List UInt8 := dkwX7_has_0 ++ dktX7_has_1
theorem dksX7_has_0 : cX7_has.data.toList.drop 0 = dktX7_has_0 := by decide +kernel
theorem dksX7_has_1 : cX7_has.data.toList.drop 24 = dktX7_has_1 := dk_seg dksX7_has_0 24 rfl rfl
theorem dksX7_has_2 : cX7_has.data.toList.drop 47 = dktX7_has_2 := dk_seg dksX7_has_1 23 rfl rfl
theorem dX7_has_0 : decode cX7_has 0 = .ok (.iconst 0, 1) := dk_3 (dk_at dksX7_has_0 0 rfl rfl)
theorem dX7_has_1 : decode cX7_has 1 = .ok (.istore_n 3, 1) := dk_62 (dk_at dksX7_has_0 1 rfl rfl)
theorem dX7_has_2 : decode cX7_has 2 = .ok (.iconst 0, 1) := dk_3 (dk_at dksX7_has_0 2 rfl rfl)
theorem dX7_has_3 : decode cX7_has 3 = .ok (.istore 4, 2) := dk_54 4 (dk_at dksX7_has_0 3 rfl rfl)
theorem dX7_has_5 : decode cX7_has 5 = .ok (.iload 4, 2) := dk_21 4 (dk_at dksX7_has_0 5 rfl rfl)
theorem dX7_has_7 : decode cX7_has 7 = .ok (.bipush 8, 2) := dk_16 8 (dk_at dksX7_has_0 7 rfl rfl)
theorem dX7_has_9 : decode cX7_has 9 = .ok (.if_icmp .ge 59, 3) := dk_162 0 59 (dk_at dksX7_has_0 9 rfl rfl)
theorem dX7_has_12 : decode cX7_has 12 = .ok (.iload_n 3, 1) := dk_29 (dk_at dksX7_has_0 12 rfl rfl)
theorem dX7_has_13 : decode cX7_has 13 = .ok (.aload_n 0, 1) := dk_42 (dk_at dksX7_has_0 13 rfl rfl)
theorem dX7_has_14 : decode cX7_has 14 = .ok (.getfield 50, 3) := dk_180 0 50 (dk_at dksX7_has_0 14 rfl rfl)
theorem dX7_has_17 : decode cX7_has 17 = .ok (.iload 4, 2) := dk_21 4 (dk_at dksX7_has_0 17 rfl rfl)
theorem dX7_has_19 : decode cX7_has 19 = .ok (.iaload, 1) := dk_46 (dk_at dksX7_has_0 19 rfl rfl)
theorem dX7_has_20 : decode cX7_has 20 = .ok (.iconst (-1), 1) := dk_2 (dk_at dksX7_has_0 20 rfl rfl)
theorem dX7_has_21 : decode cX7_has 21 = .ok (.if_icmp .eq 38, 3) := dk_159 0 38 (dk_at dksX7_has_0 21 rfl rfl)
theorem dX7_has_24 : decode cX7_has 24 = .ok (.aload_n 0, 1) := dk_42 (dk_at dksX7_has_1 0 rfl rfl)
theorem dX7_has_25 : decode cX7_has 25 = .ok (.getfield 59, 3) := dk_180 0 59 (dk_at dksX7_has_1 1 rfl rfl)
theorem dX7_has_28 : decode cX7_has 28 = .ok (.iload 4, 2) := dk_21 4 (dk_at dksX7_has_1 4 rfl rfl)
theorem dX7_has_30 : decode cX7_has 30 = .ok (.iaload, 1) := dk_46 (dk_at dksX7_has_1 6 rfl rfl)
theorem dX7_has_31 : decode cX7_has 31 = .ok (.iload_n 1, 1) := dk_27 (dk_at dksX7_has_1 7 rfl rfl)
theorem dX7_has_32 : decode cX7_has 32 = .ok (.if_icmp .ne 27, 3) := dk_160 0 27 (dk_at dksX7_has_1 8 rfl rfl)
theorem dX7_has_35 : decode cX7_has 35 = .ok (.iload_n 2, 1) := dk_28 (dk_at dksX7_has_1 11 rfl rfl)
theorem dX7_has_36 : decode cX7_has 36 = .ok (.ifCond .eq 19, 3) := dk_153 0 19 (dk_at dksX7_has_1 12 rfl rfl)
theorem dX7_has_39 : decode cX7_has 39 = .ok (.aload_n 0, 1) := dk_42 (dk_at dksX7_has_1 15 rfl rfl)
theorem dX7_has_40 : decode cX7_has 40 = .ok (.getfield 53, 3) := dk_180 0 53 (dk_at dksX7_has_1 16 rfl rfl)
theorem dX7_has_43 : decode cX7_has 43 = .ok (.iload 4, 2) := dk_21 4 (dk_at dksX7_has_1 19 rfl rfl)
theorem dX7_has_45 : decode cX7_has 45 = .ok (.iaload, 1) := dk_46 (dk_at dksX7_has_1 21 rfl rfl)
theorem dX7_has_46 : decode cX7_has 46 = .ok (.aload_n 0, 1) := dk_42 (dk_at dksX7_has_1 22 rfl rfl)
theorem dX7_has_47 : decode cX7_has 47 = .ok (.getfield 177, 3) := dk_180 0 177 (dk_at dksX7_has_2 0 rfl rfl)
theorem dX7_has_50 : decode cX7_has 50 = .ok (.iload_n 1, 1) := dk_27 (dk_at dksX7_has_2 3 rfl rfl)
theorem dX7_has_51 : decode cX7_has 51 = .ok (.iaload, 1) := dk_46 (dk_at dksX7_has_2 4 rfl rfl)
theorem dX7_has_52 : decode cX7_has 52 = .ok (.if_icmp .ne 7, 3) := dk_160 0 7 (dk_at dksX7_has_2 5 rfl rfl)
theorem dX7_has_55 : decode cX7_has 55 = .ok (.iconst 1, 1) := dk_4 (dk_at dksX7_has_2 8 rfl rfl)
theorem dX7_has_56 : decode cX7_has 56 = .ok (.goto 4, 3) := dk_167 0 4 (dk_at dksX7_has_2 9 rfl rfl)
theorem dX7_has_59 : decode cX7_has 59 = .ok (.iconst 0, 1) := dk_3 (dk_at dksX7_has_2 12 rfl rfl)
theorem dX7_has_60 : decode cX7_has 60 = .ok (.iadd, 1) := dk_96 (dk_at dksX7_has_2 13 rfl rfl)
theorem dX7_has_61 : decode cX7_has 61 = .ok (.istore_n 3, 1) := dk_62 (dk_at dksX7_has_2 14 rfl rfl)
theorem dX7_has_62 : decode cX7_has 62 = .ok (.iinc 4 1, 3) := dk_132 4 1 (dk_at dksX7_has_2 15 rfl rfl)
theorem dX7_has_65 : decode cX7_has 65 = .ok (.goto (-60), 3) := dk_167 255 196 (dk_at dksX7_has_2 18 rfl rfl)
theorem dX7_has_68 : decode cX7_has 68 = .ok (.iload_n 3, 1) := dk_29 (dk_at dksX7_has_2 21 rfl rfl)
theorem dX7_has_69 : decode cX7_has 69 = .ok (.ireturn, 1) := dk_172 (dk_at dksX7_has_2 22 rfl rfl)
abbrev cX7_setHealth : ByteArray := prog_17_method_92_code
def yX7_setHealth : MethodName := ⟨RX7, "setHealth", "(IZ)V"⟩
def dkwX7_setHealth_1 : List UInt8 := [154, 0, 10, 42, 180, 0, 62, 29, 28, 84, 177]
abbrev dktX7_setHealth_1 : List UInt8 := dkwX7_setHealth_1 ++ []
def dkwX7_setHealth_0 : List UInt8 := [42, 27, 182, 1, 24, 62, 42, 29, 2, 160, 0, 7, 4, 167, 0, 4, 3, 181, 0, 189, 42, 180, 0, 189]
abbrev dktX7_setHealth_0 : List UInt8 := dkwX7_setHealth_0 ++ dktX7_setHealth_1
theorem dksX7_setHealth_0 : cX7_setHealth.data.toList.drop 0 = dktX7_setHealth_0 := by decide +kernel
theorem dksX7_setHealth_1 : cX7_setHealth.data.toList.drop 24 = dktX7_setHealth_1 := dk_seg dksX7_setHealth_0 24 rfl rfl
theorem dX7_setHealth_0 : decode cX7_setHealth 0 = .ok (.aload_n 0, 1) := dk_42 (dk_at dksX7_setHealth_0 0 rfl rfl)
theorem dX7_setHealth_1 : decode cX7_setHealth 1 = .ok (.iload_n 1, 1) := dk_27 (dk_at dksX7_setHealth_0 1 rfl rfl)
theorem dX7_setHealth_2 : decode cX7_setHealth 2 = .ok (.invokevirtual 280, 3) := dk_182 1 24 (dk_at dksX7_setHealth_0 2 rfl rfl)
theorem dX7_setHealth_5 : decode cX7_setHealth 5 = .ok (.istore_n 3, 1) := dk_62 (dk_at dksX7_setHealth_0 5 rfl rfl)
theorem dX7_setHealth_6 : decode cX7_setHealth 6 = .ok (.aload_n 0, 1) := dk_42 (dk_at dksX7_setHealth_0 6 rfl rfl)
theorem dX7_setHealth_7 : decode cX7_setHealth 7 = .ok (.iload_n 3, 1) := dk_29 (dk_at dksX7_setHealth_0 7 rfl rfl)
theorem dX7_setHealth_8 : decode cX7_setHealth 8 = .ok (.iconst (-1), 1) := dk_2 (dk_at dksX7_setHealth_0 8 rfl rfl)
theorem dX7_setHealth_9 : decode cX7_setHealth 9 = .ok (.if_icmp .ne 7, 3) := dk_160 0 7 (dk_at dksX7_setHealth_0 9 rfl rfl)
theorem dX7_setHealth_12 : decode cX7_setHealth 12 = .ok (.iconst 1, 1) := dk_4 (dk_at dksX7_setHealth_0 12 rfl rfl)
theorem dX7_setHealth_13 : decode cX7_setHealth 13 = .ok (.goto 4, 3) := dk_167 0 4 (dk_at dksX7_setHealth_0 13 rfl rfl)
theorem dX7_setHealth_16 : decode cX7_setHealth 16 = .ok (.iconst 0, 1) := dk_3 (dk_at dksX7_setHealth_0 16 rfl rfl)
theorem dX7_setHealth_17 : decode cX7_setHealth 17 = .ok (.putfield 189, 3) := dk_181 0 189 (dk_at dksX7_setHealth_0 17 rfl rfl)
theorem dX7_setHealth_20 : decode cX7_setHealth 20 = .ok (.aload_n 0, 1) := dk_42 (dk_at dksX7_setHealth_0 20 rfl rfl)
theorem dX7_setHealth_21 : decode cX7_setHealth 21 = .ok (.getfield 189, 3) := dk_180 0 189 (dk_at dksX7_setHealth_0 21 rfl rfl)
theorem dX7_setHealth_24 : decode cX7_setHealth 24 = .ok (.ifCond .ne 10, 3) := dk_154 0 10 (dk_at dksX7_setHealth_1 0 rfl rfl)
theorem dX7_setHealth_27 : decode cX7_setHealth 27 = .ok (.aload_n 0, 1) := dk_42 (dk_at dksX7_setHealth_1 3 rfl rfl)
theorem dX7_setHealth_28 : decode cX7_setHealth 28 = .ok (.getfield 62, 3) := dk_180 0 62 (dk_at dksX7_setHealth_1 4 rfl rfl)
theorem dX7_setHealth_31 : decode cX7_setHealth 31 = .ok (.iload_n 3, 1) := dk_29 (dk_at dksX7_setHealth_1 7 rfl rfl)
theorem dX7_setHealth_32 : decode cX7_setHealth 32 = .ok (.iload_n 2, 1) := dk_28 (dk_at dksX7_setHealth_1 8 rfl rfl)
theorem dX7_setHealth_33 : decode cX7_setHealth 33 = .ok (.bastore, 1) := dk_84 (dk_at dksX7_setHealth_1 9 rfl rfl)
theorem dX7_setHealth_34 : decode cX7_setHealth 34 = .ok (.return_, 1) := dk_177 (dk_at dksX7_setHealth_1 10 rfl rfl)
abbrev cX7_pass : ByteArray := prog_17_method_95_code
def yX7_pass : MethodName := ⟨RX7, "pass", "(I)I"⟩
def dkwX7_pass_3 : List UInt8 := [180, 0, 189, 158, 0, 7, 3, 167, 0, 7, 42, 180, 1, 130, 172]
abbrev dktX7_pass_3 : List UInt8 := dkwX7_pass_3 ++ []
def dkwX7_pass_2 : List UInt8 := [180, 1, 120, 162, 0, 14, 42, 29, 182, 1, 133, 132, 3, 1, 167, 255, 240, 132, 2, 1, 167, 255, 210, 42]
abbrev dktX7_pass_2 : List UInt8 := dkwX7_pass_2 ++ dktX7_pass_3
def dkwX7_pass_1 : List UInt8 := [162, 0, 47, 42, 180, 0, 189, 154, 0, 40, 42, 89, 180, 1, 130, 4, 96, 181, 1, 130, 3, 62, 29, 42]
abbrev dktX7_pass_1 : List UInt8 := dkwX7_pass_1 ++ dktX7_pass_2
def dkwX7_pass_0 : List UInt8 := [42, 27, 4, 16, 50, 184, 0, 192, 153, 0, 7, 3, 167, 0, 4, 4, 181, 0, 189, 3, 61, 28, 27]
abbrev dktX7_pass_0 : List UInt8 := dkwX7_pass_0 ++ dktX7_pass_1
theorem dksX7_pass_0 : cX7_pass.data.toList.drop 0 = dktX7_pass_0 := by decide +kernel
theorem dksX7_pass_1 : cX7_pass.data.toList.drop 23 = dktX7_pass_1 := dk_seg dksX7_pass_0 23 rfl rfl
theorem dksX7_pass_2 : cX7_pass.data.toList.drop 47 = dktX7_pass_2 := dk_seg dksX7_pass_1 24 rfl rfl
theorem dksX7_pass_3 : cX7_pass.data.toList.drop 71 = dktX7_pass_3 := dk_seg dksX7_pass_2 24 rfl rfl
theorem dX7_pass_0 : decode cX7_pass 0 = .ok (.aload_n 0, 1) := dk_42 (dk_at dksX7_pass_0 0 rfl rfl)
theorem dX7_pass_1 : decode cX7_pass 1 = .ok (.iload_n 1, 1) := dk_27 (dk_at dksX7_pass_0 1 rfl rfl)
theorem dX7_pass_2 : decode cX7_pass 2 = .ok (.iconst 1, 1) := dk_4 (dk_at dksX7_pass_0 2 rfl rfl)
theorem dX7_pass_3 : decode cX7_pass 3 = .ok (.bipush 50, 2) := dk_16 50 (dk_at dksX7_pass_0 3 rfl rfl)
theorem dX7_pass_5 : decode cX7_pass 5 = .ok (.invokestatic 192, 3) := dk_184 0 192 (dk_at dksX7_pass_0 5 rfl rfl)
theorem dX7_pass_8 : decode cX7_pass 8 = .ok (.ifCond .eq 7, 3) := dk_153 0 7 (dk_at dksX7_pass_0 8 rfl rfl)
theorem dX7_pass_11 : decode cX7_pass 11 = .ok (.iconst 0, 1) := dk_3 (dk_at dksX7_pass_0 11 rfl rfl)
theorem dX7_pass_12 : decode cX7_pass 12 = .ok (.goto 4, 3) := dk_167 0 4 (dk_at dksX7_pass_0 12 rfl rfl)
theorem dX7_pass_15 : decode cX7_pass 15 = .ok (.iconst 1, 1) := dk_4 (dk_at dksX7_pass_0 15 rfl rfl)
theorem dX7_pass_16 : decode cX7_pass 16 = .ok (.putfield 189, 3) := dk_181 0 189 (dk_at dksX7_pass_0 16 rfl rfl)
theorem dX7_pass_19 : decode cX7_pass 19 = .ok (.iconst 0, 1) := dk_3 (dk_at dksX7_pass_0 19 rfl rfl)
theorem dX7_pass_20 : decode cX7_pass 20 = .ok (.istore_n 2, 1) := dk_61 (dk_at dksX7_pass_0 20 rfl rfl)
theorem dX7_pass_21 : decode cX7_pass 21 = .ok (.iload_n 2, 1) := dk_28 (dk_at dksX7_pass_0 21 rfl rfl)
theorem dX7_pass_22 : decode cX7_pass 22 = .ok (.iload_n 1, 1) := dk_27 (dk_at dksX7_pass_0 22 rfl rfl)
theorem dX7_pass_23 : decode cX7_pass 23 = .ok (.if_icmp .ge 47, 3) := dk_162 0 47 (dk_at dksX7_pass_1 0 rfl rfl)
theorem dX7_pass_26 : decode cX7_pass 26 = .ok (.aload_n 0, 1) := dk_42 (dk_at dksX7_pass_1 3 rfl rfl)
theorem dX7_pass_27 : decode cX7_pass 27 = .ok (.getfield 189, 3) := dk_180 0 189 (dk_at dksX7_pass_1 4 rfl rfl)
theorem dX7_pass_30 : decode cX7_pass 30 = .ok (.ifCond .ne 40, 3) := dk_154 0 40 (dk_at dksX7_pass_1 7 rfl rfl)
theorem dX7_pass_33 : decode cX7_pass 33 = .ok (.aload_n 0, 1) := dk_42 (dk_at dksX7_pass_1 10 rfl rfl)
theorem dX7_pass_34 : decode cX7_pass 34 = .ok (.dup, 1) := dk_89 (dk_at dksX7_pass_1 11 rfl rfl)
theorem dX7_pass_35 : decode cX7_pass 35 = .ok (.getfield 386, 3) := dk_180 1 130 (dk_at dksX7_pass_1 12 rfl rfl)
theorem dX7_pass_38 : decode cX7_pass 38 = .ok (.iconst 1, 1) := dk_4 (dk_at dksX7_pass_1 15 rfl rfl)
theorem dX7_pass_39 : decode cX7_pass 39 = .ok (.iadd, 1) := dk_96 (dk_at dksX7_pass_1 16 rfl rfl)
theorem dX7_pass_40 : decode cX7_pass 40 = .ok (.putfield 386, 3) := dk_181 1 130 (dk_at dksX7_pass_1 17 rfl rfl)
theorem dX7_pass_43 : decode cX7_pass 43 = .ok (.iconst 0, 1) := dk_3 (dk_at dksX7_pass_1 20 rfl rfl)
theorem dX7_pass_44 : decode cX7_pass 44 = .ok (.istore_n 3, 1) := dk_62 (dk_at dksX7_pass_1 21 rfl rfl)
theorem dX7_pass_45 : decode cX7_pass 45 = .ok (.iload_n 3, 1) := dk_29 (dk_at dksX7_pass_1 22 rfl rfl)
theorem dX7_pass_46 : decode cX7_pass 46 = .ok (.aload_n 0, 1) := dk_42 (dk_at dksX7_pass_1 23 rfl rfl)
theorem dX7_pass_47 : decode cX7_pass 47 = .ok (.getfield 376, 3) := dk_180 1 120 (dk_at dksX7_pass_2 0 rfl rfl)
theorem dX7_pass_50 : decode cX7_pass 50 = .ok (.if_icmp .ge 14, 3) := dk_162 0 14 (dk_at dksX7_pass_2 3 rfl rfl)
theorem dX7_pass_53 : decode cX7_pass 53 = .ok (.aload_n 0, 1) := dk_42 (dk_at dksX7_pass_2 6 rfl rfl)
theorem dX7_pass_54 : decode cX7_pass 54 = .ok (.iload_n 3, 1) := dk_29 (dk_at dksX7_pass_2 7 rfl rfl)
theorem dX7_pass_55 : decode cX7_pass 55 = .ok (.invokevirtual 389, 3) := dk_182 1 133 (dk_at dksX7_pass_2 8 rfl rfl)
theorem dX7_pass_58 : decode cX7_pass 58 = .ok (.iinc 3 1, 3) := dk_132 3 1 (dk_at dksX7_pass_2 11 rfl rfl)
theorem dX7_pass_61 : decode cX7_pass 61 = .ok (.goto (-16), 3) := dk_167 255 240 (dk_at dksX7_pass_2 14 rfl rfl)
theorem dX7_pass_64 : decode cX7_pass 64 = .ok (.iinc 2 1, 3) := dk_132 2 1 (dk_at dksX7_pass_2 17 rfl rfl)
theorem dX7_pass_67 : decode cX7_pass 67 = .ok (.goto (-46), 3) := dk_167 255 210 (dk_at dksX7_pass_2 20 rfl rfl)
theorem dX7_pass_70 : decode cX7_pass 70 = .ok (.aload_n 0, 1) := dk_42 (dk_at dksX7_pass_2 23 rfl rfl)
theorem dX7_pass_71 : decode cX7_pass 71 = .ok (.getfield 189, 3) := dk_180 0 189 (dk_at dksX7_pass_3 0 rfl rfl)
theorem dX7_pass_74 : decode cX7_pass 74 = .ok (.ifCond .le 7, 3) := dk_158 0 7 (dk_at dksX7_pass_3 3 rfl rfl)
theorem dX7_pass_77 : decode cX7_pass 77 = .ok (.iconst 0, 1) := dk_3 (dk_at dksX7_pass_3 6 rfl rfl)
theorem dX7_pass_78 : decode cX7_pass 78 = .ok (.goto 7, 3) := dk_167 0 7 (dk_at dksX7_pass_3 7 rfl rfl)
theorem dX7_pass_81 : decode cX7_pass 81 = .ok (.aload_n 0, 1) := dk_42 (dk_at dksX7_pass_3 10 rfl rfl)
theorem dX7_pass_82 : decode cX7_pass 82 = .ok (.getfield 386, 3) := dk_180 1 130 (dk_at dksX7_pass_3 11 rfl rfl)
theorem dX7_pass_85 : decode cX7_pass 85 = .ok (.ireturn, 1) := dk_172 (dk_at dksX7_pass_3 14 rfl rfl)
abbrev cX7_ticks : ByteArray := prog_17_method_94_code
def yX7_ticks : MethodName := ⟨RX7, "ticks", "(I)V"⟩
def dkwX7_ticks_9 : List UInt8 := [182, 1, 27, 167, 0, 15, 21, 4, 2, 159, 0, 9, 42, 21, 4, 182, 1, 27, 177]
abbrev dktX7_ticks_9 : List UInt8 := dkwX7_ticks_9 ++ []
def dkwX7_ticks_8 : List UInt8 := [27, 46, 164, 0, 28, 42, 21, 4, 2, 159, 0, 8, 21, 4, 167, 0, 10, 42, 27, 5, 3, 182, 1, 126]
abbrev dktX7_ticks_8 : List UInt8 := dkwX7_ticks_8 ++ dktX7_ticks_9
def dkwX7_ticks_7 : List UInt8 := [180, 0, 177, 27, 46, 42, 180, 0, 174, 27, 46, 27, 182, 1, 21, 87, 167, 0, 50, 29, 42, 180, 0, 183]
abbrev dktX7_ticks_7 : List UInt8 := dkwX7_ticks_7 ++ dktX7_ticks_8
def dkwX7_ticks_6 : List UInt8 := [180, 0, 183, 27, 46, 162, 0, 37, 42, 42, 180, 0, 177, 27, 46, 182, 1, 18, 153, 0, 71, 42, 42]
abbrev dktX7_ticks_6 : List UInt8 := dkwX7_ticks_6 ++ dktX7_ticks_7
def dkwX7_ticks_5 : List UInt8 := [29, 42, 180, 0, 183, 27, 46, 163, 0, 7, 4, 167, 0, 4, 3, 182, 1, 126, 54, 4, 29, 42]
abbrev dktX7_ticks_5 : List UInt8 := dkwX7_ticks_5 ++ dktX7_ticks_6
def dkwX7_ticks_4 : List UInt8 := [180, 0, 180, 27, 2, 79, 42, 180, 0, 186, 27, 3, 79, 177, 42, 27, 3, 182, 1, 123, 62, 42, 27, 4]
abbrev dktX7_ticks_4 : List UInt8 := dkwX7_ticks_4 ++ dktX7_ticks_5
def dkwX7_ticks_3 : List UInt8 := [42, 180, 0, 180, 27, 46, 2, 159, 0, 29, 42, 180, 0, 177, 27, 42, 180, 0, 180, 27, 46, 79, 42]
abbrev dktX7_ticks_3 : List UInt8 := dkwX7_ticks_3 ++ dktX7_ticks_4
def dkwX7_ticks_2 : List UInt8 := [153, 0, 7, 4, 167, 0, 4, 3, 96, 79, 29, 153, 0, 49, 42, 180, 0, 186, 27, 46, 4, 164, 0, 39]
abbrev dktX7_ticks_2 : List UInt8 := dkwX7_ticks_2 ++ dktX7_ticks_3
def dkwX7_ticks_1 : List UInt8 := [46, 160, 0, 7, 4, 167, 0, 4, 3, 62, 42, 28, 182, 1, 27, 42, 180, 0, 186, 27, 92, 46, 29]
abbrev dktX7_ticks_1 : List UInt8 := dkwX7_ticks_1 ++ dktX7_ticks_2
def dkwX7_ticks_0 : List UInt8 := [42, 27, 3, 4, 182, 1, 126, 61, 28, 2, 159, 0, 98, 42, 180, 0, 53, 28, 46, 42, 180, 0, 177, 27]
abbrev dktX7_ticks_0 : List UInt8 := dkwX7_ticks_0 ++ dktX7_ticks_1
theorem dksX7_ticks_0 : cX7_ticks.data.toList.drop 0 = dktX7_ticks_0 := by decide +kernel
theorem dksX7_ticks_1 : cX7_ticks.data.toList.drop 24 = dktX7_ticks_1 := dk_seg dksX7_ticks_0 24 rfl rfl
theorem dksX7_ticks_2 : cX7_ticks.data.toList.drop 47 = dktX7_ticks_2 := dk_seg dksX7_ticks_1 23 rfl rfl
theorem dksX7_ticks_3 : cX7_ticks.data.toList.drop 71 = dktX7_ticks_3 := dk_seg dksX7_ticks_2 24 rfl rfl
theorem dksX7_ticks_4 : cX7_ticks.data.toList.drop 94 = dktX7_ticks_4 := dk_seg dksX7_ticks_3 23 rfl rfl
theorem dksX7_ticks_5 : cX7_ticks.data.toList.drop 118 = dktX7_ticks_5 := dk_seg dksX7_ticks_4 24 rfl rfl
theorem dksX7_ticks_6 : cX7_ticks.data.toList.drop 140 = dktX7_ticks_6 := dk_seg dksX7_ticks_5 22 rfl rfl
theorem dksX7_ticks_7 : cX7_ticks.data.toList.drop 163 = dktX7_ticks_7 := dk_seg dksX7_ticks_6 23 rfl rfl
theorem dksX7_ticks_8 : cX7_ticks.data.toList.drop 187 = dktX7_ticks_8 := dk_seg dksX7_ticks_7 24 rfl rfl
theorem dksX7_ticks_9 : cX7_ticks.data.toList.drop 211 = dktX7_ticks_9 := dk_seg dksX7_ticks_8 24 rfl rfl
theorem dX7_ticks_0 : decode cX7_ticks 0 = .ok (.aload_n 0, 1) := dk_42 (dk_at dksX7_ticks_0 0 rfl rfl)
theorem dX7_ticks_1 : decode cX7_ticks 1 = .ok (.iload_n 1, 1) := dk_27 (dk_at dksX7_ticks_0 1 rfl rfl)
theorem dX7_ticks_2 : decode cX7_ticks 2 = .ok (.iconst 0, 1) := dk_3 (dk_at dksX7_ticks_0 2 rfl rfl)
theorem dX7_ticks_3 : decode cX7_ticks 3 = .ok (.iconst 1, 1) := dk_4 (dk_at dksX7_ticks_0 3 rfl rfl)
theorem dX7_ticks_4 : decode cX7_ticks 4 = .ok (.invokevirtual 382, 3) := dk_182 1 126 (dk_at dksX7_ticks_0 4 rfl rfl)
theorem dX7_ticks_7 : decode cX7_ticks 7 = .ok (.istore_n 2, 1) := dk_61 (dk_at dksX7_ticks_0 7 rfl rfl)
theorem dX7_ticks_8 : decode cX7_ticks 8 = .ok (.iload_n 2, 1) := dk_28 (dk_at dksX7_ticks_0 8 rfl rfl)
theorem dX7_ticks_9 : decode cX7_ticks 9 = .ok (.iconst (-1), 1) := dk_2 (dk_at dksX7_ticks_0 9 rfl rfl)
theorem dX7_ticks_10 : decode cX7_ticks 10 = .ok (.if_icmp .eq 98, 3) := dk_159 0 98 (dk_at dksX7_ticks_0 10 rfl rfl)
theorem dX7_ticks_13 : decode cX7_ticks 13 = .ok (.aload_n 0, 1) := dk_42 (dk_at dksX7_ticks_0 13 rfl rfl)
theorem dX7_ticks_14 : decode cX7_ticks 14 = .ok (.getfield 53, 3) := dk_180 0 53 (dk_at dksX7_ticks_0 14 rfl rfl)
theorem dX7_ticks_17 : decode cX7_ticks 17 = .ok (.iload_n 2, 1) := dk_28 (dk_at dksX7_ticks_0 17 rfl rfl)
theorem dX7_ticks_18 : decode cX7_ticks 18 = .ok (.iaload, 1) := dk_46 (dk_at dksX7_ticks_0 18 rfl rfl)
theorem dX7_ticks_19 : decode cX7_ticks 19 = .ok (.aload_n 0, 1) := dk_42 (dk_at dksX7_ticks_0 19 rfl rfl)
theorem dX7_ticks_20 : decode cX7_ticks 20 = .ok (.getfield 177, 3) := dk_180 0 177 (dk_at dksX7_ticks_0 20 rfl rfl)
theorem dX7_ticks_23 : decode cX7_ticks 23 = .ok (.iload_n 1, 1) := dk_27 (dk_at dksX7_ticks_0 23 rfl rfl)
theorem dX7_ticks_24 : decode cX7_ticks 24 = .ok (.iaload, 1) := dk_46 (dk_at dksX7_ticks_1 0 rfl rfl)
theorem dX7_ticks_25 : decode cX7_ticks 25 = .ok (.if_icmp .ne 7, 3) := dk_160 0 7 (dk_at dksX7_ticks_1 1 rfl rfl)
theorem dX7_ticks_28 : decode cX7_ticks 28 = .ok (.iconst 1, 1) := dk_4 (dk_at dksX7_ticks_1 4 rfl rfl)
theorem dX7_ticks_29 : decode cX7_ticks 29 = .ok (.goto 4, 3) := dk_167 0 4 (dk_at dksX7_ticks_1 5 rfl rfl)
theorem dX7_ticks_32 : decode cX7_ticks 32 = .ok (.iconst 0, 1) := dk_3 (dk_at dksX7_ticks_1 8 rfl rfl)
theorem dX7_ticks_33 : decode cX7_ticks 33 = .ok (.istore_n 3, 1) := dk_62 (dk_at dksX7_ticks_1 9 rfl rfl)
theorem dX7_ticks_34 : decode cX7_ticks 34 = .ok (.aload_n 0, 1) := dk_42 (dk_at dksX7_ticks_1 10 rfl rfl)
theorem dX7_ticks_35 : decode cX7_ticks 35 = .ok (.iload_n 2, 1) := dk_28 (dk_at dksX7_ticks_1 11 rfl rfl)
theorem dX7_ticks_36 : decode cX7_ticks 36 = .ok (.invokevirtual 283, 3) := dk_182 1 27 (dk_at dksX7_ticks_1 12 rfl rfl)
theorem dX7_ticks_39 : decode cX7_ticks 39 = .ok (.aload_n 0, 1) := dk_42 (dk_at dksX7_ticks_1 15 rfl rfl)
theorem dX7_ticks_40 : decode cX7_ticks 40 = .ok (.getfield 186, 3) := dk_180 0 186 (dk_at dksX7_ticks_1 16 rfl rfl)
theorem dX7_ticks_43 : decode cX7_ticks 43 = .ok (.iload_n 1, 1) := dk_27 (dk_at dksX7_ticks_1 19 rfl rfl)
theorem dX7_ticks_44 : decode cX7_ticks 44 = .ok (.dup2, 1) := dk_92 (dk_at dksX7_ticks_1 20 rfl rfl)
theorem dX7_ticks_45 : decode cX7_ticks 45 = .ok (.iaload, 1) := dk_46 (dk_at dksX7_ticks_1 21 rfl rfl)
theorem dX7_ticks_46 : decode cX7_ticks 46 = .ok (.iload_n 3, 1) := dk_29 (dk_at dksX7_ticks_1 22 rfl rfl)
theorem dX7_ticks_47 : decode cX7_ticks 47 = .ok (.ifCond .eq 7, 3) := dk_153 0 7 (dk_at dksX7_ticks_2 0 rfl rfl)
theorem dX7_ticks_50 : decode cX7_ticks 50 = .ok (.iconst 1, 1) := dk_4 (dk_at dksX7_ticks_2 3 rfl rfl)
theorem dX7_ticks_51 : decode cX7_ticks 51 = .ok (.goto 4, 3) := dk_167 0 4 (dk_at dksX7_ticks_2 4 rfl rfl)
theorem dX7_ticks_54 : decode cX7_ticks 54 = .ok (.iconst 0, 1) := dk_3 (dk_at dksX7_ticks_2 7 rfl rfl)
theorem dX7_ticks_55 : decode cX7_ticks 55 = .ok (.iadd, 1) := dk_96 (dk_at dksX7_ticks_2 8 rfl rfl)
theorem dX7_ticks_56 : decode cX7_ticks 56 = .ok (.iastore, 1) := dk_79 (dk_at dksX7_ticks_2 9 rfl rfl)
theorem dX7_ticks_57 : decode cX7_ticks 57 = .ok (.iload_n 3, 1) := dk_29 (dk_at dksX7_ticks_2 10 rfl rfl)
theorem dX7_ticks_58 : decode cX7_ticks 58 = .ok (.ifCond .eq 49, 3) := dk_153 0 49 (dk_at dksX7_ticks_2 11 rfl rfl)
theorem dX7_ticks_61 : decode cX7_ticks 61 = .ok (.aload_n 0, 1) := dk_42 (dk_at dksX7_ticks_2 14 rfl rfl)
theorem dX7_ticks_62 : decode cX7_ticks 62 = .ok (.getfield 186, 3) := dk_180 0 186 (dk_at dksX7_ticks_2 15 rfl rfl)
theorem dX7_ticks_65 : decode cX7_ticks 65 = .ok (.iload_n 1, 1) := dk_27 (dk_at dksX7_ticks_2 18 rfl rfl)
theorem dX7_ticks_66 : decode cX7_ticks 66 = .ok (.iaload, 1) := dk_46 (dk_at dksX7_ticks_2 19 rfl rfl)
theorem dX7_ticks_67 : decode cX7_ticks 67 = .ok (.iconst 1, 1) := dk_4 (dk_at dksX7_ticks_2 20 rfl rfl)
theorem dX7_ticks_68 : decode cX7_ticks 68 = .ok (.if_icmp .le 39, 3) := dk_164 0 39 (dk_at dksX7_ticks_2 21 rfl rfl)
theorem dX7_ticks_71 : decode cX7_ticks 71 = .ok (.aload_n 0, 1) := dk_42 (dk_at dksX7_ticks_3 0 rfl rfl)
theorem dX7_ticks_72 : decode cX7_ticks 72 = .ok (.getfield 180, 3) := dk_180 0 180 (dk_at dksX7_ticks_3 1 rfl rfl)
theorem dX7_ticks_75 : decode cX7_ticks 75 = .ok (.iload_n 1, 1) := dk_27 (dk_at dksX7_ticks_3 4 rfl rfl)
theorem dX7_ticks_76 : decode cX7_ticks 76 = .ok (.iaload, 1) := dk_46 (dk_at dksX7_ticks_3 5 rfl rfl)
theorem dX7_ticks_77 : decode cX7_ticks 77 = .ok (.iconst (-1), 1) := dk_2 (dk_at dksX7_ticks_3 6 rfl rfl)
theorem dX7_ticks_78 : decode cX7_ticks 78 = .ok (.if_icmp .eq 29, 3) := dk_159 0 29 (dk_at dksX7_ticks_3 7 rfl rfl)
theorem dX7_ticks_81 : decode cX7_ticks 81 = .ok (.aload_n 0, 1) := dk_42 (dk_at dksX7_ticks_3 10 rfl rfl)
theorem dX7_ticks_82 : decode cX7_ticks 82 = .ok (.getfield 177, 3) := dk_180 0 177 (dk_at dksX7_ticks_3 11 rfl rfl)
theorem dX7_ticks_85 : decode cX7_ticks 85 = .ok (.iload_n 1, 1) := dk_27 (dk_at dksX7_ticks_3 14 rfl rfl)
theorem dX7_ticks_86 : decode cX7_ticks 86 = .ok (.aload_n 0, 1) := dk_42 (dk_at dksX7_ticks_3 15 rfl rfl)
theorem dX7_ticks_87 : decode cX7_ticks 87 = .ok (.getfield 180, 3) := dk_180 0 180 (dk_at dksX7_ticks_3 16 rfl rfl)
theorem dX7_ticks_90 : decode cX7_ticks 90 = .ok (.iload_n 1, 1) := dk_27 (dk_at dksX7_ticks_3 19 rfl rfl)
theorem dX7_ticks_91 : decode cX7_ticks 91 = .ok (.iaload, 1) := dk_46 (dk_at dksX7_ticks_3 20 rfl rfl)
theorem dX7_ticks_92 : decode cX7_ticks 92 = .ok (.iastore, 1) := dk_79 (dk_at dksX7_ticks_3 21 rfl rfl)
theorem dX7_ticks_93 : decode cX7_ticks 93 = .ok (.aload_n 0, 1) := dk_42 (dk_at dksX7_ticks_3 22 rfl rfl)
theorem dX7_ticks_94 : decode cX7_ticks 94 = .ok (.getfield 180, 3) := dk_180 0 180 (dk_at dksX7_ticks_4 0 rfl rfl)
theorem dX7_ticks_97 : decode cX7_ticks 97 = .ok (.iload_n 1, 1) := dk_27 (dk_at dksX7_ticks_4 3 rfl rfl)
theorem dX7_ticks_98 : decode cX7_ticks 98 = .ok (.iconst (-1), 1) := dk_2 (dk_at dksX7_ticks_4 4 rfl rfl)
theorem dX7_ticks_99 : decode cX7_ticks 99 = .ok (.iastore, 1) := dk_79 (dk_at dksX7_ticks_4 5 rfl rfl)
theorem dX7_ticks_100 : decode cX7_ticks 100 = .ok (.aload_n 0, 1) := dk_42 (dk_at dksX7_ticks_4 6 rfl rfl)
theorem dX7_ticks_101 : decode cX7_ticks 101 = .ok (.getfield 186, 3) := dk_180 0 186 (dk_at dksX7_ticks_4 7 rfl rfl)
theorem dX7_ticks_104 : decode cX7_ticks 104 = .ok (.iload_n 1, 1) := dk_27 (dk_at dksX7_ticks_4 10 rfl rfl)
theorem dX7_ticks_105 : decode cX7_ticks 105 = .ok (.iconst 0, 1) := dk_3 (dk_at dksX7_ticks_4 11 rfl rfl)
theorem dX7_ticks_106 : decode cX7_ticks 106 = .ok (.iastore, 1) := dk_79 (dk_at dksX7_ticks_4 12 rfl rfl)
theorem dX7_ticks_107 : decode cX7_ticks 107 = .ok (.return_, 1) := dk_177 (dk_at dksX7_ticks_4 13 rfl rfl)
theorem dX7_ticks_108 : decode cX7_ticks 108 = .ok (.aload_n 0, 1) := dk_42 (dk_at dksX7_ticks_4 14 rfl rfl)
theorem dX7_ticks_109 : decode cX7_ticks 109 = .ok (.iload_n 1, 1) := dk_27 (dk_at dksX7_ticks_4 15 rfl rfl)
theorem dX7_ticks_110 : decode cX7_ticks 110 = .ok (.iconst 0, 1) := dk_3 (dk_at dksX7_ticks_4 16 rfl rfl)
theorem dX7_ticks_111 : decode cX7_ticks 111 = .ok (.invokevirtual 379, 3) := dk_182 1 123 (dk_at dksX7_ticks_4 17 rfl rfl)
theorem dX7_ticks_114 : decode cX7_ticks 114 = .ok (.istore_n 3, 1) := dk_62 (dk_at dksX7_ticks_4 20 rfl rfl)
theorem dX7_ticks_115 : decode cX7_ticks 115 = .ok (.aload_n 0, 1) := dk_42 (dk_at dksX7_ticks_4 21 rfl rfl)
theorem dX7_ticks_116 : decode cX7_ticks 116 = .ok (.iload_n 1, 1) := dk_27 (dk_at dksX7_ticks_4 22 rfl rfl)
theorem dX7_ticks_117 : decode cX7_ticks 117 = .ok (.iconst 1, 1) := dk_4 (dk_at dksX7_ticks_4 23 rfl rfl)
theorem dX7_ticks_118 : decode cX7_ticks 118 = .ok (.iload_n 3, 1) := dk_29 (dk_at dksX7_ticks_5 0 rfl rfl)
theorem dX7_ticks_119 : decode cX7_ticks 119 = .ok (.aload_n 0, 1) := dk_42 (dk_at dksX7_ticks_5 1 rfl rfl)
theorem dX7_ticks_120 : decode cX7_ticks 120 = .ok (.getfield 183, 3) := dk_180 0 183 (dk_at dksX7_ticks_5 2 rfl rfl)
theorem dX7_ticks_123 : decode cX7_ticks 123 = .ok (.iload_n 1, 1) := dk_27 (dk_at dksX7_ticks_5 5 rfl rfl)
theorem dX7_ticks_124 : decode cX7_ticks 124 = .ok (.iaload, 1) := dk_46 (dk_at dksX7_ticks_5 6 rfl rfl)
theorem dX7_ticks_125 : decode cX7_ticks 125 = .ok (.if_icmp .gt 7, 3) := dk_163 0 7 (dk_at dksX7_ticks_5 7 rfl rfl)
theorem dX7_ticks_128 : decode cX7_ticks 128 = .ok (.iconst 1, 1) := dk_4 (dk_at dksX7_ticks_5 10 rfl rfl)
theorem dX7_ticks_129 : decode cX7_ticks 129 = .ok (.goto 4, 3) := dk_167 0 4 (dk_at dksX7_ticks_5 11 rfl rfl)
theorem dX7_ticks_132 : decode cX7_ticks 132 = .ok (.iconst 0, 1) := dk_3 (dk_at dksX7_ticks_5 14 rfl rfl)
theorem dX7_ticks_133 : decode cX7_ticks 133 = .ok (.invokevirtual 382, 3) := dk_182 1 126 (dk_at dksX7_ticks_5 15 rfl rfl)
theorem dX7_ticks_136 : decode cX7_ticks 136 = .ok (.istore 4, 2) := dk_54 4 (dk_at dksX7_ticks_5 18 rfl rfl)
theorem dX7_ticks_138 : decode cX7_ticks 138 = .ok (.iload_n 3, 1) := dk_29 (dk_at dksX7_ticks_5 20 rfl rfl)
theorem dX7_ticks_139 : decode cX7_ticks 139 = .ok (.aload_n 0, 1) := dk_42 (dk_at dksX7_ticks_5 21 rfl rfl)
theorem dX7_ticks_140 : decode cX7_ticks 140 = .ok (.getfield 183, 3) := dk_180 0 183 (dk_at dksX7_ticks_6 0 rfl rfl)
theorem dX7_ticks_143 : decode cX7_ticks 143 = .ok (.iload_n 1, 1) := dk_27 (dk_at dksX7_ticks_6 3 rfl rfl)
theorem dX7_ticks_144 : decode cX7_ticks 144 = .ok (.iaload, 1) := dk_46 (dk_at dksX7_ticks_6 4 rfl rfl)
theorem dX7_ticks_145 : decode cX7_ticks 145 = .ok (.if_icmp .ge 37, 3) := dk_162 0 37 (dk_at dksX7_ticks_6 5 rfl rfl)
theorem dX7_ticks_148 : decode cX7_ticks 148 = .ok (.aload_n 0, 1) := dk_42 (dk_at dksX7_ticks_6 8 rfl rfl)
theorem dX7_ticks_149 : decode cX7_ticks 149 = .ok (.aload_n 0, 1) := dk_42 (dk_at dksX7_ticks_6 9 rfl rfl)
theorem dX7_ticks_150 : decode cX7_ticks 150 = .ok (.getfield 177, 3) := dk_180 0 177 (dk_at dksX7_ticks_6 10 rfl rfl)
theorem dX7_ticks_153 : decode cX7_ticks 153 = .ok (.iload_n 1, 1) := dk_27 (dk_at dksX7_ticks_6 13 rfl rfl)
theorem dX7_ticks_154 : decode cX7_ticks 154 = .ok (.iaload, 1) := dk_46 (dk_at dksX7_ticks_6 14 rfl rfl)
theorem dX7_ticks_155 : decode cX7_ticks 155 = .ok (.invokevirtual 274, 3) := dk_182 1 18 (dk_at dksX7_ticks_6 15 rfl rfl)
theorem dX7_ticks_158 : decode cX7_ticks 158 = .ok (.ifCond .eq 71, 3) := dk_153 0 71 (dk_at dksX7_ticks_6 18 rfl rfl)
theorem dX7_ticks_161 : decode cX7_ticks 161 = .ok (.aload_n 0, 1) := dk_42 (dk_at dksX7_ticks_6 21 rfl rfl)
theorem dX7_ticks_162 : decode cX7_ticks 162 = .ok (.aload_n 0, 1) := dk_42 (dk_at dksX7_ticks_6 22 rfl rfl)
theorem dX7_ticks_163 : decode cX7_ticks 163 = .ok (.getfield 177, 3) := dk_180 0 177 (dk_at dksX7_ticks_7 0 rfl rfl)
theorem dX7_ticks_166 : decode cX7_ticks 166 = .ok (.iload_n 1, 1) := dk_27 (dk_at dksX7_ticks_7 3 rfl rfl)
theorem dX7_ticks_167 : decode cX7_ticks 167 = .ok (.iaload, 1) := dk_46 (dk_at dksX7_ticks_7 4 rfl rfl)
theorem dX7_ticks_168 : decode cX7_ticks 168 = .ok (.aload_n 0, 1) := dk_42 (dk_at dksX7_ticks_7 5 rfl rfl)
theorem dX7_ticks_169 : decode cX7_ticks 169 = .ok (.getfield 174, 3) := dk_180 0 174 (dk_at dksX7_ticks_7 6 rfl rfl)
theorem dX7_ticks_172 : decode cX7_ticks 172 = .ok (.iload_n 1, 1) := dk_27 (dk_at dksX7_ticks_7 9 rfl rfl)
theorem dX7_ticks_173 : decode cX7_ticks 173 = .ok (.iaload, 1) := dk_46 (dk_at dksX7_ticks_7 10 rfl rfl)
theorem dX7_ticks_174 : decode cX7_ticks 174 = .ok (.iload_n 1, 1) := dk_27 (dk_at dksX7_ticks_7 11 rfl rfl)
theorem dX7_ticks_175 : decode cX7_ticks 175 = .ok (.invokevirtual 277, 3) := dk_182 1 21 (dk_at dksX7_ticks_7 12 rfl rfl)
theorem dX7_ticks_178 : decode cX7_ticks 178 = .ok (.pop, 1) := dk_87 (dk_at dksX7_ticks_7 15 rfl rfl)
theorem dX7_ticks_179 : decode cX7_ticks 179 = .ok (.goto 50, 3) := dk_167 0 50 (dk_at dksX7_ticks_7 16 rfl rfl)
theorem dX7_ticks_182 : decode cX7_ticks 182 = .ok (.iload_n 3, 1) := dk_29 (dk_at dksX7_ticks_7 19 rfl rfl)
theorem dX7_ticks_183 : decode cX7_ticks 183 = .ok (.aload_n 0, 1) := dk_42 (dk_at dksX7_ticks_7 20 rfl rfl)
theorem dX7_ticks_184 : decode cX7_ticks 184 = .ok (.getfield 183, 3) := dk_180 0 183 (dk_at dksX7_ticks_7 21 rfl rfl)
theorem dX7_ticks_187 : decode cX7_ticks 187 = .ok (.iload_n 1, 1) := dk_27 (dk_at dksX7_ticks_8 0 rfl rfl)
theorem dX7_ticks_188 : decode cX7_ticks 188 = .ok (.iaload, 1) := dk_46 (dk_at dksX7_ticks_8 1 rfl rfl)
theorem dX7_ticks_189 : decode cX7_ticks 189 = .ok (.if_icmp .le 28, 3) := dk_164 0 28 (dk_at dksX7_ticks_8 2 rfl rfl)
theorem dX7_ticks_192 : decode cX7_ticks 192 = .ok (.aload_n 0, 1) := dk_42 (dk_at dksX7_ticks_8 5 rfl rfl)
theorem dX7_ticks_193 : decode cX7_ticks 193 = .ok (.iload 4, 2) := dk_21 4 (dk_at dksX7_ticks_8 6 rfl rfl)
theorem dX7_ticks_195 : decode cX7_ticks 195 = .ok (.iconst (-1), 1) := dk_2 (dk_at dksX7_ticks_8 8 rfl rfl)
theorem dX7_ticks_196 : decode cX7_ticks 196 = .ok (.if_icmp .eq 8, 3) := dk_159 0 8 (dk_at dksX7_ticks_8 9 rfl rfl)
theorem dX7_ticks_199 : decode cX7_ticks 199 = .ok (.iload 4, 2) := dk_21 4 (dk_at dksX7_ticks_8 12 rfl rfl)
theorem dX7_ticks_201 : decode cX7_ticks 201 = .ok (.goto 10, 3) := dk_167 0 10 (dk_at dksX7_ticks_8 14 rfl rfl)
theorem dX7_ticks_204 : decode cX7_ticks 204 = .ok (.aload_n 0, 1) := dk_42 (dk_at dksX7_ticks_8 17 rfl rfl)
theorem dX7_ticks_205 : decode cX7_ticks 205 = .ok (.iload_n 1, 1) := dk_27 (dk_at dksX7_ticks_8 18 rfl rfl)
theorem dX7_ticks_206 : decode cX7_ticks 206 = .ok (.iconst 2, 1) := dk_5 (dk_at dksX7_ticks_8 19 rfl rfl)
theorem dX7_ticks_207 : decode cX7_ticks 207 = .ok (.iconst 0, 1) := dk_3 (dk_at dksX7_ticks_8 20 rfl rfl)
theorem dX7_ticks_208 : decode cX7_ticks 208 = .ok (.invokevirtual 382, 3) := dk_182 1 126 (dk_at dksX7_ticks_8 21 rfl rfl)
theorem dX7_ticks_211 : decode cX7_ticks 211 = .ok (.invokevirtual 283, 3) := dk_182 1 27 (dk_at dksX7_ticks_9 0 rfl rfl)
theorem dX7_ticks_214 : decode cX7_ticks 214 = .ok (.goto 15, 3) := dk_167 0 15 (dk_at dksX7_ticks_9 3 rfl rfl)
theorem dX7_ticks_217 : decode cX7_ticks 217 = .ok (.iload 4, 2) := dk_21 4 (dk_at dksX7_ticks_9 6 rfl rfl)
theorem dX7_ticks_219 : decode cX7_ticks 219 = .ok (.iconst (-1), 1) := dk_2 (dk_at dksX7_ticks_9 8 rfl rfl)
theorem dX7_ticks_220 : decode cX7_ticks 220 = .ok (.if_icmp .eq 9, 3) := dk_159 0 9 (dk_at dksX7_ticks_9 9 rfl rfl)
theorem dX7_ticks_223 : decode cX7_ticks 223 = .ok (.aload_n 0, 1) := dk_42 (dk_at dksX7_ticks_9 12 rfl rfl)
theorem dX7_ticks_224 : decode cX7_ticks 224 = .ok (.iload 4, 2) := dk_21 4 (dk_at dksX7_ticks_9 13 rfl rfl)
theorem dX7_ticks_226 : decode cX7_ticks 226 = .ok (.invokevirtual 283, 3) := dk_182 1 27 (dk_at dksX7_ticks_9 15 rfl rfl)
theorem dX7_ticks_229 : decode cX7_ticks 229 = .ok (.return_, 1) := dk_177 (dk_at dksX7_ticks_9 18 rfl rfl)
abbrev cX7_pick : ByteArray := prog_17_method_93_code
def yX7_pick : MethodName := ⟨RX7, "pick", "(IIZ)I"⟩
def dkwX7_pick_5 : List UInt8 := [21, 5, 167, 0, 5, 21, 4, 54, 4, 132, 5, 1, 167, 255, 133, 21, 4, 172]
abbrev dktX7_pick_5 : List UInt8 := dkwX7_pick_5 ++ []
def dkwX7_pick_4 : List UInt8 := [180, 0, 50, 21, 5, 46, 42, 180, 0, 50, 21, 4, 46, 162, 0, 7, 4, 167, 0, 4, 3, 160, 0, 8]
abbrev dktX7_pick_4 : List UInt8 := dkwX7_pick_4 ++ dktX7_pick_5
def dkwX7_pick_3 : List UInt8 := [159, 0, 7, 4, 167, 0, 4, 3, 54, 6, 21, 6, 153, 0, 40, 21, 4, 2, 159, 0, 29, 29, 42]
abbrev dktX7_pick_3 : List UInt8 := dkwX7_pick_3 ++ dktX7_pick_4
def dkwX7_pick_2 : List UInt8 := [154, 0, 31, 167, 0, 24, 28, 5, 159, 0, 19, 42, 180, 0, 53, 21, 5, 46, 42, 180, 0, 177, 27, 46]
abbrev dktX7_pick_2 : List UInt8 := dkwX7_pick_2 ++ dktX7_pick_3
def dkwX7_pick_1 : List UInt8 := [42, 180, 0, 59, 21, 5, 46, 27, 160, 0, 45, 28, 154, 0, 16, 42, 180, 0, 62, 21, 5, 51]
abbrev dktX7_pick_1 : List UInt8 := dkwX7_pick_1 ++ dktX7_pick_2
def dkwX7_pick_0 : List UInt8 := [2, 54, 4, 3, 54, 5, 21, 5, 16, 8, 162, 0, 122, 42, 180, 0, 50, 21, 5, 46, 2, 159, 0, 56]
abbrev dktX7_pick_0 : List UInt8 := dkwX7_pick_0 ++ dktX7_pick_1
theorem dksX7_pick_0 : cX7_pick.data.toList.drop 0 = dktX7_pick_0 := by decide +kernel
theorem dksX7_pick_1 : cX7_pick.data.toList.drop 24 = dktX7_pick_1 := dk_seg dksX7_pick_0 24 rfl rfl
theorem dksX7_pick_2 : cX7_pick.data.toList.drop 46 = dktX7_pick_2 := dk_seg dksX7_pick_1 22 rfl rfl
theorem dksX7_pick_3 : cX7_pick.data.toList.drop 70 = dktX7_pick_3 := dk_seg dksX7_pick_2 24 rfl rfl
theorem dksX7_pick_4 : cX7_pick.data.toList.drop 93 = dktX7_pick_4 := dk_seg dksX7_pick_3 23 rfl rfl
theorem dksX7_pick_5 : cX7_pick.data.toList.drop 117 = dktX7_pick_5 := dk_seg dksX7_pick_4 24 rfl rfl
theorem dX7_pick_0 : decode cX7_pick 0 = .ok (.iconst (-1), 1) := dk_2 (dk_at dksX7_pick_0 0 rfl rfl)
theorem dX7_pick_1 : decode cX7_pick 1 = .ok (.istore 4, 2) := dk_54 4 (dk_at dksX7_pick_0 1 rfl rfl)
theorem dX7_pick_3 : decode cX7_pick 3 = .ok (.iconst 0, 1) := dk_3 (dk_at dksX7_pick_0 3 rfl rfl)
theorem dX7_pick_4 : decode cX7_pick 4 = .ok (.istore 5, 2) := dk_54 5 (dk_at dksX7_pick_0 4 rfl rfl)
theorem dX7_pick_6 : decode cX7_pick 6 = .ok (.iload 5, 2) := dk_21 5 (dk_at dksX7_pick_0 6 rfl rfl)
theorem dX7_pick_8 : decode cX7_pick 8 = .ok (.bipush 8, 2) := dk_16 8 (dk_at dksX7_pick_0 8 rfl rfl)
theorem dX7_pick_10 : decode cX7_pick 10 = .ok (.if_icmp .ge 122, 3) := dk_162 0 122 (dk_at dksX7_pick_0 10 rfl rfl)
theorem dX7_pick_13 : decode cX7_pick 13 = .ok (.aload_n 0, 1) := dk_42 (dk_at dksX7_pick_0 13 rfl rfl)
theorem dX7_pick_14 : decode cX7_pick 14 = .ok (.getfield 50, 3) := dk_180 0 50 (dk_at dksX7_pick_0 14 rfl rfl)
theorem dX7_pick_17 : decode cX7_pick 17 = .ok (.iload 5, 2) := dk_21 5 (dk_at dksX7_pick_0 17 rfl rfl)
theorem dX7_pick_19 : decode cX7_pick 19 = .ok (.iaload, 1) := dk_46 (dk_at dksX7_pick_0 19 rfl rfl)
theorem dX7_pick_20 : decode cX7_pick 20 = .ok (.iconst (-1), 1) := dk_2 (dk_at dksX7_pick_0 20 rfl rfl)
theorem dX7_pick_21 : decode cX7_pick 21 = .ok (.if_icmp .eq 56, 3) := dk_159 0 56 (dk_at dksX7_pick_0 21 rfl rfl)
theorem dX7_pick_24 : decode cX7_pick 24 = .ok (.aload_n 0, 1) := dk_42 (dk_at dksX7_pick_1 0 rfl rfl)
theorem dX7_pick_25 : decode cX7_pick 25 = .ok (.getfield 59, 3) := dk_180 0 59 (dk_at dksX7_pick_1 1 rfl rfl)
theorem dX7_pick_28 : decode cX7_pick 28 = .ok (.iload 5, 2) := dk_21 5 (dk_at dksX7_pick_1 4 rfl rfl)
theorem dX7_pick_30 : decode cX7_pick 30 = .ok (.iaload, 1) := dk_46 (dk_at dksX7_pick_1 6 rfl rfl)
theorem dX7_pick_31 : decode cX7_pick 31 = .ok (.iload_n 1, 1) := dk_27 (dk_at dksX7_pick_1 7 rfl rfl)
theorem dX7_pick_32 : decode cX7_pick 32 = .ok (.if_icmp .ne 45, 3) := dk_160 0 45 (dk_at dksX7_pick_1 8 rfl rfl)
theorem dX7_pick_35 : decode cX7_pick 35 = .ok (.iload_n 2, 1) := dk_28 (dk_at dksX7_pick_1 11 rfl rfl)
theorem dX7_pick_36 : decode cX7_pick 36 = .ok (.ifCond .ne 16, 3) := dk_154 0 16 (dk_at dksX7_pick_1 12 rfl rfl)
theorem dX7_pick_39 : decode cX7_pick 39 = .ok (.aload_n 0, 1) := dk_42 (dk_at dksX7_pick_1 15 rfl rfl)
theorem dX7_pick_40 : decode cX7_pick 40 = .ok (.getfield 62, 3) := dk_180 0 62 (dk_at dksX7_pick_1 16 rfl rfl)
theorem dX7_pick_43 : decode cX7_pick 43 = .ok (.iload 5, 2) := dk_21 5 (dk_at dksX7_pick_1 19 rfl rfl)
theorem dX7_pick_45 : decode cX7_pick 45 = .ok (.baload, 1) := dk_51 (dk_at dksX7_pick_1 21 rfl rfl)
theorem dX7_pick_46 : decode cX7_pick 46 = .ok (.ifCond .ne 31, 3) := dk_154 0 31 (dk_at dksX7_pick_2 0 rfl rfl)
theorem dX7_pick_49 : decode cX7_pick 49 = .ok (.goto 24, 3) := dk_167 0 24 (dk_at dksX7_pick_2 3 rfl rfl)
theorem dX7_pick_52 : decode cX7_pick 52 = .ok (.iload_n 2, 1) := dk_28 (dk_at dksX7_pick_2 6 rfl rfl)
theorem dX7_pick_53 : decode cX7_pick 53 = .ok (.iconst 2, 1) := dk_5 (dk_at dksX7_pick_2 7 rfl rfl)
theorem dX7_pick_54 : decode cX7_pick 54 = .ok (.if_icmp .eq 19, 3) := dk_159 0 19 (dk_at dksX7_pick_2 8 rfl rfl)
theorem dX7_pick_57 : decode cX7_pick 57 = .ok (.aload_n 0, 1) := dk_42 (dk_at dksX7_pick_2 11 rfl rfl)
theorem dX7_pick_58 : decode cX7_pick 58 = .ok (.getfield 53, 3) := dk_180 0 53 (dk_at dksX7_pick_2 12 rfl rfl)
theorem dX7_pick_61 : decode cX7_pick 61 = .ok (.iload 5, 2) := dk_21 5 (dk_at dksX7_pick_2 15 rfl rfl)
theorem dX7_pick_63 : decode cX7_pick 63 = .ok (.iaload, 1) := dk_46 (dk_at dksX7_pick_2 17 rfl rfl)
theorem dX7_pick_64 : decode cX7_pick 64 = .ok (.aload_n 0, 1) := dk_42 (dk_at dksX7_pick_2 18 rfl rfl)
theorem dX7_pick_65 : decode cX7_pick 65 = .ok (.getfield 177, 3) := dk_180 0 177 (dk_at dksX7_pick_2 19 rfl rfl)
theorem dX7_pick_68 : decode cX7_pick 68 = .ok (.iload_n 1, 1) := dk_27 (dk_at dksX7_pick_2 22 rfl rfl)
theorem dX7_pick_69 : decode cX7_pick 69 = .ok (.iaload, 1) := dk_46 (dk_at dksX7_pick_2 23 rfl rfl)
theorem dX7_pick_70 : decode cX7_pick 70 = .ok (.if_icmp .eq 7, 3) := dk_159 0 7 (dk_at dksX7_pick_3 0 rfl rfl)
theorem dX7_pick_73 : decode cX7_pick 73 = .ok (.iconst 1, 1) := dk_4 (dk_at dksX7_pick_3 3 rfl rfl)
theorem dX7_pick_74 : decode cX7_pick 74 = .ok (.goto 4, 3) := dk_167 0 4 (dk_at dksX7_pick_3 4 rfl rfl)
theorem dX7_pick_77 : decode cX7_pick 77 = .ok (.iconst 0, 1) := dk_3 (dk_at dksX7_pick_3 7 rfl rfl)
theorem dX7_pick_78 : decode cX7_pick 78 = .ok (.istore 6, 2) := dk_54 6 (dk_at dksX7_pick_3 8 rfl rfl)
theorem dX7_pick_80 : decode cX7_pick 80 = .ok (.iload 6, 2) := dk_21 6 (dk_at dksX7_pick_3 10 rfl rfl)
theorem dX7_pick_82 : decode cX7_pick 82 = .ok (.ifCond .eq 40, 3) := dk_153 0 40 (dk_at dksX7_pick_3 12 rfl rfl)
theorem dX7_pick_85 : decode cX7_pick 85 = .ok (.iload 4, 2) := dk_21 4 (dk_at dksX7_pick_3 15 rfl rfl)
theorem dX7_pick_87 : decode cX7_pick 87 = .ok (.iconst (-1), 1) := dk_2 (dk_at dksX7_pick_3 17 rfl rfl)
theorem dX7_pick_88 : decode cX7_pick 88 = .ok (.if_icmp .eq 29, 3) := dk_159 0 29 (dk_at dksX7_pick_3 18 rfl rfl)
theorem dX7_pick_91 : decode cX7_pick 91 = .ok (.iload_n 3, 1) := dk_29 (dk_at dksX7_pick_3 21 rfl rfl)
theorem dX7_pick_92 : decode cX7_pick 92 = .ok (.aload_n 0, 1) := dk_42 (dk_at dksX7_pick_3 22 rfl rfl)
theorem dX7_pick_93 : decode cX7_pick 93 = .ok (.getfield 50, 3) := dk_180 0 50 (dk_at dksX7_pick_4 0 rfl rfl)
theorem dX7_pick_96 : decode cX7_pick 96 = .ok (.iload 5, 2) := dk_21 5 (dk_at dksX7_pick_4 3 rfl rfl)
theorem dX7_pick_98 : decode cX7_pick 98 = .ok (.iaload, 1) := dk_46 (dk_at dksX7_pick_4 5 rfl rfl)
theorem dX7_pick_99 : decode cX7_pick 99 = .ok (.aload_n 0, 1) := dk_42 (dk_at dksX7_pick_4 6 rfl rfl)
theorem dX7_pick_100 : decode cX7_pick 100 = .ok (.getfield 50, 3) := dk_180 0 50 (dk_at dksX7_pick_4 7 rfl rfl)
theorem dX7_pick_103 : decode cX7_pick 103 = .ok (.iload 4, 2) := dk_21 4 (dk_at dksX7_pick_4 10 rfl rfl)
theorem dX7_pick_105 : decode cX7_pick 105 = .ok (.iaload, 1) := dk_46 (dk_at dksX7_pick_4 12 rfl rfl)
theorem dX7_pick_106 : decode cX7_pick 106 = .ok (.if_icmp .ge 7, 3) := dk_162 0 7 (dk_at dksX7_pick_4 13 rfl rfl)
theorem dX7_pick_109 : decode cX7_pick 109 = .ok (.iconst 1, 1) := dk_4 (dk_at dksX7_pick_4 16 rfl rfl)
theorem dX7_pick_110 : decode cX7_pick 110 = .ok (.goto 4, 3) := dk_167 0 4 (dk_at dksX7_pick_4 17 rfl rfl)
theorem dX7_pick_113 : decode cX7_pick 113 = .ok (.iconst 0, 1) := dk_3 (dk_at dksX7_pick_4 20 rfl rfl)
theorem dX7_pick_114 : decode cX7_pick 114 = .ok (.if_icmp .ne 8, 3) := dk_160 0 8 (dk_at dksX7_pick_4 21 rfl rfl)
theorem dX7_pick_117 : decode cX7_pick 117 = .ok (.iload 5, 2) := dk_21 5 (dk_at dksX7_pick_5 0 rfl rfl)
theorem dX7_pick_119 : decode cX7_pick 119 = .ok (.goto 5, 3) := dk_167 0 5 (dk_at dksX7_pick_5 2 rfl rfl)
theorem dX7_pick_122 : decode cX7_pick 122 = .ok (.iload 4, 2) := dk_21 4 (dk_at dksX7_pick_5 5 rfl rfl)
theorem dX7_pick_124 : decode cX7_pick 124 = .ok (.istore 4, 2) := dk_54 4 (dk_at dksX7_pick_5 7 rfl rfl)
theorem dX7_pick_126 : decode cX7_pick 126 = .ok (.iinc 5 1, 3) := dk_132 5 1 (dk_at dksX7_pick_5 9 rfl rfl)
theorem dX7_pick_129 : decode cX7_pick 129 = .ok (.goto (-123), 3) := dk_167 255 133 (dk_at dksX7_pick_5 12 rfl rfl)
theorem dX7_pick_132 : decode cX7_pick 132 = .ok (.iload 4, 2) := dk_21 4 (dk_at dksX7_pick_5 15 rfl rfl)
theorem dX7_pick_134 : decode cX7_pick 134 = .ok (.ireturn, 1) := dk_172 (dk_at dksX7_pick_5 17 rfl rfl)
theorem q99 : (Jvm.Cond.initialized "CrateDeckModel") ∈ lw_all := lw_g (lw_at lw_m1 14 rfl) rfl
theorem q254 : (Jvm.Cond.selects "CrateDeckModel" ({ cls := "java/lang/Object", name := "getClass", desc := "()Ljava/lang/Class;" } : Jvm.MethodName) ({ cls := "java/lang/Object", name := "getClass", desc := "()Ljava/lang/Class;" } : Jvm.MethodName)) ∈ lw_all := lw_g (lw_at lw_m1 169 rfl) rfl
theorem q972 : (Jvm.Cond.selects "CrateDeckModel" ({ cls := "java/lang/Object", name := "equals", desc := "(Ljava/lang/Object;)Z" } : Jvm.MethodName) ({ cls := "java/lang/Object", name := "equals", desc := "(Ljava/lang/Object;)Z" } : Jvm.MethodName)) ∈ lw_all := lw_g (lw_at lw_m4 167 rfl) rfl
theorem q1530 : (Jvm.Cond.instantiable "CrateDeckModel" (72 : Nat)) ∈ lw_all := lw_g (lw_at lw_m7 5 rfl) rfl
theorem q1532 : (Jvm.Cond.instanceMethod ({ cls := "CrateDeckModel", name := "<init>", desc := "()V" } : Jvm.MethodName)) ∈ lw_all := lw_g (lw_at lw_m7 7 rfl) rfl
theorem q1533 : (Jvm.Cond.code ({ cls := "CrateDeckModel", name := "<init>", desc := "()V" } : Jvm.MethodName) prog_17_method_1_code (2 : Nat) (Option.none : Option Jvm.ClassFile.FieldType)) ∈ lw_all := lw_g (lw_at lw_m7 8 rfl) rfl
theorem q1534 : (Jvm.Cond.methodLink "CrateDeckModel" (1 : Nat) ({ cls := "java/lang/Object", name := "<init>", desc := "()V" } : Jvm.MethodName)) ∈ lw_all := lw_g (lw_at lw_m7 9 rfl) rfl
theorem q1535 : (Jvm.Cond.fieldLink "CrateDeckModel" (189 : Nat) "CrateDeckModel" "thrown" "I") ∈ lw_all := lw_g (lw_at lw_m7 10 rfl) rfl
theorem q1536 : (Jvm.Cond.fieldLink "CrateDeckModel" (386 : Nat) "CrateDeckModel" "now" "I") ∈ lw_all := lw_g (lw_at lw_m7 11 rfl) rfl
theorem q1537 : (Jvm.Cond.fieldLink "CrateDeckModel" (231 : Nat) "CrateDeckModel" "layers" "I") ∈ lw_all := lw_g (lw_at lw_m7 12 rfl) rfl
theorem q1538 : (Jvm.Cond.fieldLink "CrateDeckModel" (7 : Nat) "CrateDeckModel" "entries" "[I") ∈ lw_all := lw_g (lw_at lw_m7 13 rfl) rfl
theorem q1539 : (Jvm.Cond.fieldLink "CrateDeckModel" (13 : Nat) "CrateDeckModel" "entryPath" "[I") ∈ lw_all := lw_g (lw_at lw_m7 14 rfl) rfl
theorem q1540 : (Jvm.Cond.fieldLink "CrateDeckModel" (16 : Nat) "CrateDeckModel" "entryKind" "[I") ∈ lw_all := lw_g (lw_at lw_m7 15 rfl) rfl
theorem q1541 : (Jvm.Cond.fieldLink "CrateDeckModel" (19 : Nat) "CrateDeckModel" "entryContent" "[I") ∈ lw_all := lw_g (lw_at lw_m7 16 rfl) rfl
theorem q1542 : (Jvm.Cond.fieldLink "CrateDeckModel" (225 : Nat) "CrateDeckModel" "drafted" "I") ∈ lw_all := lw_g (lw_at lw_m7 17 rfl) rfl
theorem q1543 : (Jvm.Cond.fieldLink "CrateDeckModel" (22 : Nat) "CrateDeckModel" "draftPath" "[I") ∈ lw_all := lw_g (lw_at lw_m7 18 rfl) rfl
theorem q1544 : (Jvm.Cond.fieldLink "CrateDeckModel" (25 : Nat) "CrateDeckModel" "draftKind" "[I") ∈ lw_all := lw_g (lw_at lw_m7 19 rfl) rfl
theorem q1545 : (Jvm.Cond.fieldLink "CrateDeckModel" (28 : Nat) "CrateDeckModel" "draftContent" "[I") ∈ lw_all := lw_g (lw_at lw_m7 20 rfl) rfl
theorem q1546 : (Jvm.Cond.fieldLink "CrateDeckModel" (234 : Nat) "CrateDeckModel" "made" "I") ∈ lw_all := lw_g (lw_at lw_m7 21 rfl) rfl
theorem q1547 : (Jvm.Cond.fieldLink "CrateDeckModel" (31 : Nat) "CrateDeckModel" "madePath" "[I") ∈ lw_all := lw_g (lw_at lw_m7 22 rfl) rfl
theorem q1548 : (Jvm.Cond.fieldLink "CrateDeckModel" (34 : Nat) "CrateDeckModel" "madeKind" "[I") ∈ lw_all := lw_g (lw_at lw_m7 23 rfl) rfl
theorem q1549 : (Jvm.Cond.fieldLink "CrateDeckModel" (37 : Nat) "CrateDeckModel" "madeContent" "[I") ∈ lw_all := lw_g (lw_at lw_m7 24 rfl) rfl
theorem q1550 : (Jvm.Cond.fieldLink "CrateDeckModel" (40 : Nat) "CrateDeckModel" "images" "I") ∈ lw_all := lw_g (lw_at lw_m7 25 rfl) rfl
theorem q1551 : (Jvm.Cond.fieldLink "CrateDeckModel" (44 : Nat) "CrateDeckModel" "length" "[I") ∈ lw_all := lw_g (lw_at lw_m7 26 rfl) rfl
theorem q1552 : (Jvm.Cond.fieldLink "CrateDeckModel" (47 : Nat) "CrateDeckModel" "row" "[I") ∈ lw_all := lw_g (lw_at lw_m7 27 rfl) rfl
theorem q1553 : (Jvm.Cond.fieldLink "CrateDeckModel" (241 : Nat) "CrateDeckModel" "onHost" "I") ∈ lw_all := lw_g (lw_at lw_m7 28 rfl) rfl
theorem q1554 : (Jvm.Cond.fieldLink "CrateDeckModel" (367 : Nat) "CrateDeckModel" "inRegistry" "I") ∈ lw_all := lw_g (lw_at lw_m7 29 rfl) rfl
theorem q1555 : (Jvm.Cond.fieldLink "CrateDeckModel" (373 : Nat) "CrateDeckModel" "kept" "I") ∈ lw_all := lw_g (lw_at lw_m7 30 rfl) rfl
theorem q1556 : (Jvm.Cond.fieldLink "CrateDeckModel" (271 : Nat) "CrateDeckModel" "containers" "I") ∈ lw_all := lw_g (lw_at lw_m7 31 rfl) rfl
theorem q1557 : (Jvm.Cond.fieldLink "CrateDeckModel" (50 : Nat) "CrateDeckModel" "number" "[I") ∈ lw_all := lw_g (lw_at lw_m7 32 rfl) rfl
theorem q1558 : (Jvm.Cond.fieldLink "CrateDeckModel" (53 : Nat) "CrateDeckModel" "imageOf" "[I") ∈ lw_all := lw_g (lw_at lw_m7 33 rfl) rfl
theorem q1559 : (Jvm.Cond.fieldLink "CrateDeckModel" (56 : Nat) "CrateDeckModel" "nameOf" "[I") ∈ lw_all := lw_g (lw_at lw_m7 34 rfl) rfl
theorem q1560 : (Jvm.Cond.fieldLink "CrateDeckModel" (59 : Nat) "CrateDeckModel" "serviceOf" "[I") ∈ lw_all := lw_g (lw_at lw_m7 35 rfl) rfl
theorem q1561 : (Jvm.Cond.fieldLink "CrateDeckModel" (62 : Nat) "CrateDeckModel" "isHealthy" "[Z") ∈ lw_all := lw_g (lw_at lw_m7 36 rfl) rfl
theorem q1562 : (Jvm.Cond.fieldLink "CrateDeckModel" (66 : Nat) "CrateDeckModel" "own" "[I") ∈ lw_all := lw_g (lw_at lw_m7 37 rfl) rfl
theorem q1563 : (Jvm.Cond.fieldLink "CrateDeckModel" (69 : Nat) "CrateDeckModel" "ownPath" "[I") ∈ lw_all := lw_g (lw_at lw_m7 38 rfl) rfl
theorem q1564 : (Jvm.Cond.fieldLink "CrateDeckModel" (72 : Nat) "CrateDeckModel" "ownKind" "[I") ∈ lw_all := lw_g (lw_at lw_m7 39 rfl) rfl
theorem q1565 : (Jvm.Cond.fieldLink "CrateDeckModel" (75 : Nat) "CrateDeckModel" "ownContent" "[I") ∈ lw_all := lw_g (lw_at lw_m7 40 rfl) rfl
theorem q1566 : (Jvm.Cond.fieldLink "CrateDeckModel" (78 : Nat) "CrateDeckModel" "oldPath" "[I") ∈ lw_all := lw_g (lw_at lw_m7 41 rfl) rfl
theorem q1567 : (Jvm.Cond.fieldLink "CrateDeckModel" (81 : Nat) "CrateDeckModel" "oldKind" "[I") ∈ lw_all := lw_g (lw_at lw_m7 42 rfl) rfl
theorem q1568 : (Jvm.Cond.fieldLink "CrateDeckModel" (84 : Nat) "CrateDeckModel" "oldContent" "[I") ∈ lw_all := lw_g (lw_at lw_m7 43 rfl) rfl
theorem q1569 : (Jvm.Cond.fieldLink "CrateDeckModel" (87 : Nat) "CrateDeckModel" "volumeAt" "[I") ∈ lw_all := lw_g (lw_at lw_m7 44 rfl) rfl
theorem q1570 : (Jvm.Cond.fieldLink "CrateDeckModel" (90 : Nat) "CrateDeckModel" "inVolume" "[I") ∈ lw_all := lw_g (lw_at lw_m7 45 rfl) rfl
theorem q1571 : (Jvm.Cond.fieldLink "CrateDeckModel" (93 : Nat) "CrateDeckModel" "filters" "[I") ∈ lw_all := lw_g (lw_at lw_m7 46 rfl) rfl
theorem q1572 : (Jvm.Cond.fieldLink "CrateDeckModel" (96 : Nat) "CrateDeckModel" "denied" "[I") ∈ lw_all := lw_g (lw_at lw_m7 47 rfl) rfl
theorem q1573 : (Jvm.Cond.fieldLink "CrateDeckModel" (99 : Nat) "CrateDeckModel" "kills" "[I") ∈ lw_all := lw_g (lw_at lw_m7 48 rfl) rfl
theorem q1574 : (Jvm.Cond.fieldLink "CrateDeckModel" (102 : Nat) "CrateDeckModel" "address" "[I") ∈ lw_all := lw_g (lw_at lw_m7 49 rfl) rfl
theorem q1575 : (Jvm.Cond.fieldLink "CrateDeckModel" (105 : Nat) "CrateDeckModel" "portOf" "[I") ∈ lw_all := lw_g (lw_at lw_m7 50 rfl) rfl
theorem q1576 : (Jvm.Cond.fieldLink "CrateDeckModel" (108 : Nat) "CrateDeckModel" "portTo" "[I") ∈ lw_all := lw_g (lw_at lw_m7 51 rfl) rfl
theorem q1577 : (Jvm.Cond.fieldLink "CrateDeckModel" (111 : Nat) "CrateDeckModel" "users" "I") ∈ lw_all := lw_g (lw_at lw_m7 52 rfl) rfl
theorem q1578 : (Jvm.Cond.fieldLink "CrateDeckModel" (114 : Nat) "CrateDeckModel" "userParent" "[I") ∈ lw_all := lw_g (lw_at lw_m7 53 rfl) rfl
theorem q1579 : (Jvm.Cond.fieldLink "CrateDeckModel" (117 : Nat) "CrateDeckModel" "ranges" "[I") ∈ lw_all := lw_g (lw_at lw_m7 54 rfl) rfl
theorem q1580 : (Jvm.Cond.fieldLink "CrateDeckModel" (120 : Nat) "CrateDeckModel" "inside" "[I") ∈ lw_all := lw_g (lw_at lw_m7 55 rfl) rfl
theorem q1581 : (Jvm.Cond.fieldLink "CrateDeckModel" (123 : Nat) "CrateDeckModel" "outside" "[I") ∈ lw_all := lw_g (lw_at lw_m7 56 rfl) rfl
theorem q1582 : (Jvm.Cond.fieldLink "CrateDeckModel" (126 : Nat) "CrateDeckModel" "howMany" "[I") ∈ lw_all := lw_g (lw_at lw_m7 57 rfl) rfl
theorem q1583 : (Jvm.Cond.fieldLink "CrateDeckModel" (129 : Nat) "CrateDeckModel" "groups" "I") ∈ lw_all := lw_g (lw_at lw_m7 58 rfl) rfl
theorem q1584 : (Jvm.Cond.fieldLink "CrateDeckModel" (132 : Nat) "CrateDeckModel" "groupParent" "[I") ∈ lw_all := lw_g (lw_at lw_m7 59 rfl) rfl
theorem q1585 : (Jvm.Cond.fieldLink "CrateDeckModel" (135 : Nat) "CrateDeckModel" "mostProcesses" "[I") ∈ lw_all := lw_g (lw_at lw_m7 60 rfl) rfl
theorem q1586 : (Jvm.Cond.fieldLink "CrateDeckModel" (138 : Nat) "CrateDeckModel" "mostMemory" "[I") ∈ lw_all := lw_g (lw_at lw_m7 61 rfl) rfl
theorem q1587 : (Jvm.Cond.fieldLink "CrateDeckModel" (141 : Nat) "CrateDeckModel" "shares" "[I") ∈ lw_all := lw_g (lw_at lw_m7 62 rfl) rfl
theorem q1588 : (Jvm.Cond.fieldLink "CrateDeckModel" (342 : Nat) "CrateDeckModel" "ran" "I") ∈ lw_all := lw_g (lw_at lw_m7 63 rfl) rfl
theorem q1589 : (Jvm.Cond.fieldLink "CrateDeckModel" (144 : Nat) "CrateDeckModel" "process" "[I") ∈ lw_all := lw_g (lw_at lw_m7 64 rfl) rfl
theorem q1590 : (Jvm.Cond.fieldLink "CrateDeckModel" (147 : Nat) "CrateDeckModel" "runsIn" "[I") ∈ lw_all := lw_g (lw_at lw_m7 65 rfl) rfl
theorem q1591 : (Jvm.Cond.fieldLink "CrateDeckModel" (150 : Nat) "CrateDeckModel" "groupOf" "[I") ∈ lw_all := lw_g (lw_at lw_m7 66 rfl) rfl
theorem q1592 : (Jvm.Cond.fieldLink "CrateDeckModel" (153 : Nat) "CrateDeckModel" "memory" "[I") ∈ lw_all := lw_g (lw_at lw_m7 67 rfl) rfl
theorem q1593 : (Jvm.Cond.fieldLink "CrateDeckModel" (156 : Nat) "CrateDeckModel" "way" "[I") ∈ lw_all := lw_g (lw_at lw_m7 68 rfl) rfl
theorem q1594 : (Jvm.Cond.fieldLink "CrateDeckModel" (361 : Nat) "CrateDeckModel" "builds" "I") ∈ lw_all := lw_g (lw_at lw_m7 69 rfl) rfl
theorem q1595 : (Jvm.Cond.fieldLink "CrateDeckModel" (364 : Nat) "CrateDeckModel" "hits" "I") ∈ lw_all := lw_g (lw_at lw_m7 70 rfl) rfl
theorem q1596 : (Jvm.Cond.fieldLink "CrateDeckModel" (159 : Nat) "CrateDeckModel" "buildImage" "[I") ∈ lw_all := lw_g (lw_at lw_m7 71 rfl) rfl
theorem q1597 : (Jvm.Cond.fieldLink "CrateDeckModel" (162 : Nat) "CrateDeckModel" "buildNumber" "[I") ∈ lw_all := lw_g (lw_at lw_m7 72 rfl) rfl
theorem q1598 : (Jvm.Cond.fieldLink "CrateDeckModel" (165 : Nat) "CrateDeckModel" "buildReads" "[I") ∈ lw_all := lw_g (lw_at lw_m7 73 rfl) rfl
theorem q1599 : (Jvm.Cond.fieldLink "CrateDeckModel" (168 : Nat) "CrateDeckModel" "buildWrites" "[I") ∈ lw_all := lw_g (lw_at lw_m7 74 rfl) rfl
theorem q1600 : (Jvm.Cond.fieldLink "CrateDeckModel" (171 : Nat) "CrateDeckModel" "built" "[I") ∈ lw_all := lw_g (lw_at lw_m7 75 rfl) rfl
theorem q1601 : (Jvm.Cond.fieldLink "CrateDeckModel" (376 : Nat) "CrateDeckModel" "services" "I") ∈ lw_all := lw_g (lw_at lw_m7 76 rfl) rfl
theorem q1602 : (Jvm.Cond.fieldLink "CrateDeckModel" (174 : Nat) "CrateDeckModel" "wishedName" "[I") ∈ lw_all := lw_g (lw_at lw_m7 77 rfl) rfl
theorem q1603 : (Jvm.Cond.fieldLink "CrateDeckModel" (177 : Nat) "CrateDeckModel" "wishedImage" "[I") ∈ lw_all := lw_g (lw_at lw_m7 78 rfl) rfl
theorem q1604 : (Jvm.Cond.fieldLink "CrateDeckModel" (180 : Nat) "CrateDeckModel" "before" "[I") ∈ lw_all := lw_g (lw_at lw_m7 79 rfl) rfl
theorem q1605 : (Jvm.Cond.fieldLink "CrateDeckModel" (183 : Nat) "CrateDeckModel" "wished" "[I") ∈ lw_all := lw_g (lw_at lw_m7 80 rfl) rfl
theorem q1606 : (Jvm.Cond.fieldLink "CrateDeckModel" (186 : Nat) "CrateDeckModel" "failures" "[I") ∈ lw_all := lw_g (lw_at lw_m7 81 rfl) rfl
theorem q1607 : (Jvm.Cond.lays "CrateDeckModel" "CrateDeckModel" "thrown" "I") ∈ lw_all := lw_g (lw_at lw_m7 82 rfl) rfl
theorem q1608 : (Jvm.Cond.soleField "CrateDeckModel" "thrown") ∈ lw_all := lw_g (lw_at lw_m7 83 rfl) rfl
theorem q1609 : (Jvm.Cond.lays "CrateDeckModel" "CrateDeckModel" "now" "I") ∈ lw_all := lw_g (lw_at lw_m7 84 rfl) rfl
theorem q1610 : (Jvm.Cond.soleField "CrateDeckModel" "now") ∈ lw_all := lw_g (lw_at lw_m7 85 rfl) rfl
theorem q1611 : (Jvm.Cond.lays "CrateDeckModel" "CrateDeckModel" "layers" "I") ∈ lw_all := lw_g (lw_at lw_m7 86 rfl) rfl
theorem q1612 : (Jvm.Cond.soleField "CrateDeckModel" "layers") ∈ lw_all := lw_g (lw_at lw_m7 87 rfl) rfl
theorem q1613 : (Jvm.Cond.laysFinal "CrateDeckModel" "CrateDeckModel" "entries" "[I") ∈ lw_all := lw_g (lw_at lw_m7 88 rfl) rfl
theorem q1614 : (Jvm.Cond.soleField "CrateDeckModel" "entries") ∈ lw_all := lw_g (lw_at lw_m7 89 rfl) rfl
theorem q1615 : (Jvm.Cond.laysFinal "CrateDeckModel" "CrateDeckModel" "entryPath" "[I") ∈ lw_all := lw_g (lw_at lw_m7 90 rfl) rfl
theorem q1616 : (Jvm.Cond.soleField "CrateDeckModel" "entryPath") ∈ lw_all := lw_g (lw_at lw_m7 91 rfl) rfl
theorem q1617 : (Jvm.Cond.laysFinal "CrateDeckModel" "CrateDeckModel" "entryKind" "[I") ∈ lw_all := lw_g (lw_at lw_m7 92 rfl) rfl
theorem q1618 : (Jvm.Cond.soleField "CrateDeckModel" "entryKind") ∈ lw_all := lw_g (lw_at lw_m7 93 rfl) rfl
theorem q1619 : (Jvm.Cond.laysFinal "CrateDeckModel" "CrateDeckModel" "entryContent" "[I") ∈ lw_all := lw_g (lw_at lw_m7 94 rfl) rfl
theorem q1620 : (Jvm.Cond.soleField "CrateDeckModel" "entryContent") ∈ lw_all := lw_g (lw_at lw_m7 95 rfl) rfl
theorem q1621 : (Jvm.Cond.lays "CrateDeckModel" "CrateDeckModel" "drafted" "I") ∈ lw_all := lw_g (lw_at lw_m7 96 rfl) rfl
theorem q1622 : (Jvm.Cond.soleField "CrateDeckModel" "drafted") ∈ lw_all := lw_g (lw_at lw_m7 97 rfl) rfl
theorem q1623 : (Jvm.Cond.laysFinal "CrateDeckModel" "CrateDeckModel" "draftPath" "[I") ∈ lw_all := lw_g (lw_at lw_m7 98 rfl) rfl
theorem q1624 : (Jvm.Cond.soleField "CrateDeckModel" "draftPath") ∈ lw_all := lw_g (lw_at lw_m7 99 rfl) rfl
theorem q1625 : (Jvm.Cond.laysFinal "CrateDeckModel" "CrateDeckModel" "draftKind" "[I") ∈ lw_all := lw_g (lw_at lw_m7 100 rfl) rfl
theorem q1626 : (Jvm.Cond.soleField "CrateDeckModel" "draftKind") ∈ lw_all := lw_g (lw_at lw_m7 101 rfl) rfl
theorem q1627 : (Jvm.Cond.laysFinal "CrateDeckModel" "CrateDeckModel" "draftContent" "[I") ∈ lw_all := lw_g (lw_at lw_m7 102 rfl) rfl
theorem q1628 : (Jvm.Cond.soleField "CrateDeckModel" "draftContent") ∈ lw_all := lw_g (lw_at lw_m7 103 rfl) rfl
theorem q1629 : (Jvm.Cond.lays "CrateDeckModel" "CrateDeckModel" "made" "I") ∈ lw_all := lw_g (lw_at lw_m7 104 rfl) rfl
theorem q1630 : (Jvm.Cond.soleField "CrateDeckModel" "made") ∈ lw_all := lw_g (lw_at lw_m7 105 rfl) rfl
theorem q1631 : (Jvm.Cond.laysFinal "CrateDeckModel" "CrateDeckModel" "madePath" "[I") ∈ lw_all := lw_g (lw_at lw_m7 106 rfl) rfl
theorem q1632 : (Jvm.Cond.soleField "CrateDeckModel" "madePath") ∈ lw_all := lw_g (lw_at lw_m7 107 rfl) rfl
theorem q1633 : (Jvm.Cond.laysFinal "CrateDeckModel" "CrateDeckModel" "madeKind" "[I") ∈ lw_all := lw_g (lw_at lw_m7 108 rfl) rfl
theorem q1634 : (Jvm.Cond.soleField "CrateDeckModel" "madeKind") ∈ lw_all := lw_g (lw_at lw_m7 109 rfl) rfl
theorem q1635 : (Jvm.Cond.laysFinal "CrateDeckModel" "CrateDeckModel" "madeContent" "[I") ∈ lw_all := lw_g (lw_at lw_m7 110 rfl) rfl
theorem q1636 : (Jvm.Cond.soleField "CrateDeckModel" "madeContent") ∈ lw_all := lw_g (lw_at lw_m7 111 rfl) rfl
theorem q1637 : (Jvm.Cond.lays "CrateDeckModel" "CrateDeckModel" "images" "I") ∈ lw_all := lw_g (lw_at lw_m7 112 rfl) rfl
theorem q1638 : (Jvm.Cond.soleField "CrateDeckModel" "images") ∈ lw_all := lw_g (lw_at lw_m7 113 rfl) rfl
theorem q1639 : (Jvm.Cond.laysFinal "CrateDeckModel" "CrateDeckModel" "length" "[I") ∈ lw_all := lw_g (lw_at lw_m7 114 rfl) rfl
theorem q1640 : (Jvm.Cond.soleField "CrateDeckModel" "length") ∈ lw_all := lw_g (lw_at lw_m7 115 rfl) rfl
theorem q1641 : (Jvm.Cond.laysFinal "CrateDeckModel" "CrateDeckModel" "row" "[I") ∈ lw_all := lw_g (lw_at lw_m7 116 rfl) rfl
theorem q1642 : (Jvm.Cond.soleField "CrateDeckModel" "row") ∈ lw_all := lw_g (lw_at lw_m7 117 rfl) rfl
theorem q1643 : (Jvm.Cond.lays "CrateDeckModel" "CrateDeckModel" "onHost" "I") ∈ lw_all := lw_g (lw_at lw_m7 118 rfl) rfl
theorem q1644 : (Jvm.Cond.soleField "CrateDeckModel" "onHost") ∈ lw_all := lw_g (lw_at lw_m7 119 rfl) rfl
theorem q1645 : (Jvm.Cond.lays "CrateDeckModel" "CrateDeckModel" "inRegistry" "I") ∈ lw_all := lw_g (lw_at lw_m7 120 rfl) rfl
theorem q1646 : (Jvm.Cond.soleField "CrateDeckModel" "inRegistry") ∈ lw_all := lw_g (lw_at lw_m7 121 rfl) rfl
theorem q1647 : (Jvm.Cond.lays "CrateDeckModel" "CrateDeckModel" "kept" "I") ∈ lw_all := lw_g (lw_at lw_m7 122 rfl) rfl
theorem q1648 : (Jvm.Cond.soleField "CrateDeckModel" "kept") ∈ lw_all := lw_g (lw_at lw_m7 123 rfl) rfl
theorem q1649 : (Jvm.Cond.lays "CrateDeckModel" "CrateDeckModel" "containers" "I") ∈ lw_all := lw_g (lw_at lw_m7 124 rfl) rfl
theorem q1650 : (Jvm.Cond.soleField "CrateDeckModel" "containers") ∈ lw_all := lw_g (lw_at lw_m7 125 rfl) rfl
theorem q1651 : (Jvm.Cond.laysFinal "CrateDeckModel" "CrateDeckModel" "number" "[I") ∈ lw_all := lw_g (lw_at lw_m7 126 rfl) rfl
theorem q1652 : (Jvm.Cond.soleField "CrateDeckModel" "number") ∈ lw_all := lw_g (lw_at lw_m7 127 rfl) rfl
theorem q1653 : (Jvm.Cond.laysFinal "CrateDeckModel" "CrateDeckModel" "imageOf" "[I") ∈ lw_all := lw_g (lw_at lw_m7 128 rfl) rfl
theorem q1654 : (Jvm.Cond.soleField "CrateDeckModel" "imageOf") ∈ lw_all := lw_g (lw_at lw_m7 129 rfl) rfl
theorem q1655 : (Jvm.Cond.laysFinal "CrateDeckModel" "CrateDeckModel" "nameOf" "[I") ∈ lw_all := lw_g (lw_at lw_m7 130 rfl) rfl
theorem q1656 : (Jvm.Cond.soleField "CrateDeckModel" "nameOf") ∈ lw_all := lw_g (lw_at lw_m7 131 rfl) rfl
theorem q1657 : (Jvm.Cond.laysFinal "CrateDeckModel" "CrateDeckModel" "serviceOf" "[I") ∈ lw_all := lw_g (lw_at lw_m7 132 rfl) rfl
theorem q1658 : (Jvm.Cond.soleField "CrateDeckModel" "serviceOf") ∈ lw_all := lw_g (lw_at lw_m7 133 rfl) rfl
theorem q1659 : (Jvm.Cond.laysFinal "CrateDeckModel" "CrateDeckModel" "isHealthy" "[Z") ∈ lw_all := lw_g (lw_at lw_m7 134 rfl) rfl
theorem q1660 : (Jvm.Cond.soleField "CrateDeckModel" "isHealthy") ∈ lw_all := lw_g (lw_at lw_m7 135 rfl) rfl
theorem q1661 : (Jvm.Cond.laysFinal "CrateDeckModel" "CrateDeckModel" "own" "[I") ∈ lw_all := lw_g (lw_at lw_m7 136 rfl) rfl
theorem q1662 : (Jvm.Cond.soleField "CrateDeckModel" "own") ∈ lw_all := lw_g (lw_at lw_m7 137 rfl) rfl
theorem q1663 : (Jvm.Cond.laysFinal "CrateDeckModel" "CrateDeckModel" "ownPath" "[I") ∈ lw_all := lw_g (lw_at lw_m7 138 rfl) rfl
theorem q1664 : (Jvm.Cond.soleField "CrateDeckModel" "ownPath") ∈ lw_all := lw_g (lw_at lw_m7 139 rfl) rfl
theorem q1665 : (Jvm.Cond.laysFinal "CrateDeckModel" "CrateDeckModel" "ownKind" "[I") ∈ lw_all := lw_g (lw_at lw_m7 140 rfl) rfl
theorem q1666 : (Jvm.Cond.soleField "CrateDeckModel" "ownKind") ∈ lw_all := lw_g (lw_at lw_m7 141 rfl) rfl
theorem q1667 : (Jvm.Cond.laysFinal "CrateDeckModel" "CrateDeckModel" "ownContent" "[I") ∈ lw_all := lw_g (lw_at lw_m7 142 rfl) rfl
theorem q1668 : (Jvm.Cond.soleField "CrateDeckModel" "ownContent") ∈ lw_all := lw_g (lw_at lw_m7 143 rfl) rfl
theorem q1669 : (Jvm.Cond.laysFinal "CrateDeckModel" "CrateDeckModel" "oldPath" "[I") ∈ lw_all := lw_g (lw_at lw_m7 144 rfl) rfl
theorem q1670 : (Jvm.Cond.soleField "CrateDeckModel" "oldPath") ∈ lw_all := lw_g (lw_at lw_m7 145 rfl) rfl
theorem q1671 : (Jvm.Cond.laysFinal "CrateDeckModel" "CrateDeckModel" "oldKind" "[I") ∈ lw_all := lw_g (lw_at lw_m7 146 rfl) rfl
theorem q1672 : (Jvm.Cond.soleField "CrateDeckModel" "oldKind") ∈ lw_all := lw_g (lw_at lw_m7 147 rfl) rfl
theorem q1673 : (Jvm.Cond.laysFinal "CrateDeckModel" "CrateDeckModel" "oldContent" "[I") ∈ lw_all := lw_g (lw_at lw_m7 148 rfl) rfl
theorem q1674 : (Jvm.Cond.soleField "CrateDeckModel" "oldContent") ∈ lw_all := lw_g (lw_at lw_m7 149 rfl) rfl
theorem q1675 : (Jvm.Cond.laysFinal "CrateDeckModel" "CrateDeckModel" "volumeAt" "[I") ∈ lw_all := lw_g (lw_at lw_m7 150 rfl) rfl
theorem q1676 : (Jvm.Cond.soleField "CrateDeckModel" "volumeAt") ∈ lw_all := lw_g (lw_at lw_m7 151 rfl) rfl
theorem q1677 : (Jvm.Cond.laysFinal "CrateDeckModel" "CrateDeckModel" "inVolume" "[I") ∈ lw_all := lw_g (lw_at lw_m7 152 rfl) rfl
theorem q1678 : (Jvm.Cond.soleField "CrateDeckModel" "inVolume") ∈ lw_all := lw_g (lw_at lw_m7 153 rfl) rfl
theorem q1679 : (Jvm.Cond.laysFinal "CrateDeckModel" "CrateDeckModel" "filters" "[I") ∈ lw_all := lw_g (lw_at lw_m7 154 rfl) rfl
theorem q1680 : (Jvm.Cond.soleField "CrateDeckModel" "filters") ∈ lw_all := lw_g (lw_at lw_m7 155 rfl) rfl
theorem q1681 : (Jvm.Cond.laysFinal "CrateDeckModel" "CrateDeckModel" "denied" "[I") ∈ lw_all := lw_g (lw_at lw_m7 156 rfl) rfl
theorem q1682 : (Jvm.Cond.soleField "CrateDeckModel" "denied") ∈ lw_all := lw_g (lw_at lw_m7 157 rfl) rfl
theorem q1683 : (Jvm.Cond.laysFinal "CrateDeckModel" "CrateDeckModel" "kills" "[I") ∈ lw_all := lw_g (lw_at lw_m7 158 rfl) rfl
theorem q1684 : (Jvm.Cond.soleField "CrateDeckModel" "kills") ∈ lw_all := lw_g (lw_at lw_m7 159 rfl) rfl
theorem q1685 : (Jvm.Cond.laysFinal "CrateDeckModel" "CrateDeckModel" "address" "[I") ∈ lw_all := lw_g (lw_at lw_m7 160 rfl) rfl
theorem q1686 : (Jvm.Cond.soleField "CrateDeckModel" "address") ∈ lw_all := lw_g (lw_at lw_m7 161 rfl) rfl
theorem q1687 : (Jvm.Cond.laysFinal "CrateDeckModel" "CrateDeckModel" "portOf" "[I") ∈ lw_all := lw_g (lw_at lw_m7 162 rfl) rfl
theorem q1688 : (Jvm.Cond.soleField "CrateDeckModel" "portOf") ∈ lw_all := lw_g (lw_at lw_m7 163 rfl) rfl
theorem q1689 : (Jvm.Cond.laysFinal "CrateDeckModel" "CrateDeckModel" "portTo" "[I") ∈ lw_all := lw_g (lw_at lw_m7 164 rfl) rfl
theorem q1690 : (Jvm.Cond.soleField "CrateDeckModel" "portTo") ∈ lw_all := lw_g (lw_at lw_m7 165 rfl) rfl
theorem q1691 : (Jvm.Cond.lays "CrateDeckModel" "CrateDeckModel" "users" "I") ∈ lw_all := lw_g (lw_at lw_m7 166 rfl) rfl
theorem q1692 : (Jvm.Cond.soleField "CrateDeckModel" "users") ∈ lw_all := lw_g (lw_at lw_m7 167 rfl) rfl
theorem q1693 : (Jvm.Cond.laysFinal "CrateDeckModel" "CrateDeckModel" "userParent" "[I") ∈ lw_all := lw_g (lw_at lw_m7 168 rfl) rfl
theorem q1694 : (Jvm.Cond.soleField "CrateDeckModel" "userParent") ∈ lw_all := lw_g (lw_at lw_m7 169 rfl) rfl
theorem q1695 : (Jvm.Cond.laysFinal "CrateDeckModel" "CrateDeckModel" "ranges" "[I") ∈ lw_all := lw_g (lw_at lw_m7 170 rfl) rfl
theorem q1696 : (Jvm.Cond.soleField "CrateDeckModel" "ranges") ∈ lw_all := lw_g (lw_at lw_m7 171 rfl) rfl
theorem q1697 : (Jvm.Cond.laysFinal "CrateDeckModel" "CrateDeckModel" "inside" "[I") ∈ lw_all := lw_g (lw_at lw_m7 172 rfl) rfl
theorem q1698 : (Jvm.Cond.soleField "CrateDeckModel" "inside") ∈ lw_all := lw_g (lw_at lw_m7 173 rfl) rfl
theorem q1699 : (Jvm.Cond.laysFinal "CrateDeckModel" "CrateDeckModel" "outside" "[I") ∈ lw_all := lw_g (lw_at lw_m7 174 rfl) rfl
theorem q1700 : (Jvm.Cond.soleField "CrateDeckModel" "outside") ∈ lw_all := lw_g (lw_at lw_m7 175 rfl) rfl
theorem q1701 : (Jvm.Cond.laysFinal "CrateDeckModel" "CrateDeckModel" "howMany" "[I") ∈ lw_all := lw_g (lw_at lw_m7 176 rfl) rfl
theorem q1702 : (Jvm.Cond.soleField "CrateDeckModel" "howMany") ∈ lw_all := lw_g (lw_at lw_m7 177 rfl) rfl
theorem q1703 : (Jvm.Cond.lays "CrateDeckModel" "CrateDeckModel" "groups" "I") ∈ lw_all := lw_g (lw_at lw_m7 178 rfl) rfl
theorem q1704 : (Jvm.Cond.soleField "CrateDeckModel" "groups") ∈ lw_all := lw_g (lw_at lw_m7 179 rfl) rfl
theorem q1705 : (Jvm.Cond.laysFinal "CrateDeckModel" "CrateDeckModel" "groupParent" "[I") ∈ lw_all := lw_g (lw_at lw_m7 180 rfl) rfl
theorem q1706 : (Jvm.Cond.soleField "CrateDeckModel" "groupParent") ∈ lw_all := lw_g (lw_at lw_m7 181 rfl) rfl
theorem q1707 : (Jvm.Cond.laysFinal "CrateDeckModel" "CrateDeckModel" "mostProcesses" "[I") ∈ lw_all := lw_g (lw_at lw_m7 182 rfl) rfl
theorem q1708 : (Jvm.Cond.soleField "CrateDeckModel" "mostProcesses") ∈ lw_all := lw_g (lw_at lw_m7 183 rfl) rfl
theorem q1709 : (Jvm.Cond.laysFinal "CrateDeckModel" "CrateDeckModel" "mostMemory" "[I") ∈ lw_all := lw_g (lw_at lw_m7 184 rfl) rfl
theorem q1710 : (Jvm.Cond.soleField "CrateDeckModel" "mostMemory") ∈ lw_all := lw_g (lw_at lw_m7 185 rfl) rfl
theorem q1711 : (Jvm.Cond.laysFinal "CrateDeckModel" "CrateDeckModel" "shares" "[I") ∈ lw_all := lw_g (lw_at lw_m7 186 rfl) rfl
theorem q1712 : (Jvm.Cond.soleField "CrateDeckModel" "shares") ∈ lw_all := lw_g (lw_at lw_m7 187 rfl) rfl
theorem q1713 : (Jvm.Cond.lays "CrateDeckModel" "CrateDeckModel" "ran" "I") ∈ lw_all := lw_g (lw_at lw_m7 188 rfl) rfl
theorem q1714 : (Jvm.Cond.soleField "CrateDeckModel" "ran") ∈ lw_all := lw_g (lw_at lw_m7 189 rfl) rfl
theorem q1715 : (Jvm.Cond.laysFinal "CrateDeckModel" "CrateDeckModel" "process" "[I") ∈ lw_all := lw_g (lw_at lw_m7 190 rfl) rfl
theorem q1716 : (Jvm.Cond.soleField "CrateDeckModel" "process") ∈ lw_all := lw_g (lw_at lw_m7 191 rfl) rfl
theorem q1717 : (Jvm.Cond.laysFinal "CrateDeckModel" "CrateDeckModel" "runsIn" "[I") ∈ lw_all := lw_g (lw_at lw_m7 192 rfl) rfl
theorem q1718 : (Jvm.Cond.soleField "CrateDeckModel" "runsIn") ∈ lw_all := lw_g (lw_at lw_m7 193 rfl) rfl
theorem q1719 : (Jvm.Cond.laysFinal "CrateDeckModel" "CrateDeckModel" "groupOf" "[I") ∈ lw_all := lw_g (lw_at lw_m7 194 rfl) rfl
theorem q1720 : (Jvm.Cond.soleField "CrateDeckModel" "groupOf") ∈ lw_all := lw_g (lw_at lw_m7 195 rfl) rfl
theorem q1721 : (Jvm.Cond.laysFinal "CrateDeckModel" "CrateDeckModel" "memory" "[I") ∈ lw_all := lw_g (lw_at lw_m7 196 rfl) rfl
theorem q1722 : (Jvm.Cond.soleField "CrateDeckModel" "memory") ∈ lw_all := lw_g (lw_at lw_m7 197 rfl) rfl
theorem q1723 : (Jvm.Cond.laysFinal "CrateDeckModel" "CrateDeckModel" "way" "[I") ∈ lw_all := lw_g (lw_at lw_m7 198 rfl) rfl
theorem q1724 : (Jvm.Cond.soleField "CrateDeckModel" "way") ∈ lw_all := lw_g (lw_at lw_m7 199 rfl) rfl
theorem q1725 : (Jvm.Cond.lays "CrateDeckModel" "CrateDeckModel" "builds" "I") ∈ lw_all := lw_g (lw_at lw_m7 200 rfl) rfl
theorem q1726 : (Jvm.Cond.soleField "CrateDeckModel" "builds") ∈ lw_all := lw_g (lw_at lw_m7 201 rfl) rfl
theorem q1727 : (Jvm.Cond.lays "CrateDeckModel" "CrateDeckModel" "hits" "I") ∈ lw_all := lw_g (lw_at lw_m7 202 rfl) rfl
theorem q1728 : (Jvm.Cond.soleField "CrateDeckModel" "hits") ∈ lw_all := lw_g (lw_at lw_m7 203 rfl) rfl
theorem q1729 : (Jvm.Cond.laysFinal "CrateDeckModel" "CrateDeckModel" "buildImage" "[I") ∈ lw_all := lw_g (lw_at lw_m7 204 rfl) rfl
theorem q1730 : (Jvm.Cond.soleField "CrateDeckModel" "buildImage") ∈ lw_all := lw_g (lw_at lw_m7 205 rfl) rfl
theorem q1731 : (Jvm.Cond.laysFinal "CrateDeckModel" "CrateDeckModel" "buildNumber" "[I") ∈ lw_all := lw_g (lw_at lw_m7 206 rfl) rfl
theorem q1732 : (Jvm.Cond.soleField "CrateDeckModel" "buildNumber") ∈ lw_all := lw_g (lw_at lw_m7 207 rfl) rfl
theorem q1733 : (Jvm.Cond.laysFinal "CrateDeckModel" "CrateDeckModel" "buildReads" "[I") ∈ lw_all := lw_g (lw_at lw_m7 208 rfl) rfl
theorem q1734 : (Jvm.Cond.soleField "CrateDeckModel" "buildReads") ∈ lw_all := lw_g (lw_at lw_m7 209 rfl) rfl
theorem q1735 : (Jvm.Cond.laysFinal "CrateDeckModel" "CrateDeckModel" "buildWrites" "[I") ∈ lw_all := lw_g (lw_at lw_m7 210 rfl) rfl
theorem q1736 : (Jvm.Cond.soleField "CrateDeckModel" "buildWrites") ∈ lw_all := lw_g (lw_at lw_m7 211 rfl) rfl
theorem q1737 : (Jvm.Cond.laysFinal "CrateDeckModel" "CrateDeckModel" "built" "[I") ∈ lw_all := lw_g (lw_at lw_m7 212 rfl) rfl
theorem q1738 : (Jvm.Cond.soleField "CrateDeckModel" "built") ∈ lw_all := lw_g (lw_at lw_m7 213 rfl) rfl
theorem q1739 : (Jvm.Cond.lays "CrateDeckModel" "CrateDeckModel" "services" "I") ∈ lw_all := lw_g (lw_at lw_m7 214 rfl) rfl
theorem q1740 : (Jvm.Cond.soleField "CrateDeckModel" "services") ∈ lw_all := lw_g (lw_at lw_m7 215 rfl) rfl
theorem q1741 : (Jvm.Cond.laysFinal "CrateDeckModel" "CrateDeckModel" "wishedName" "[I") ∈ lw_all := lw_g (lw_at lw_m7 216 rfl) rfl
theorem q1742 : (Jvm.Cond.soleField "CrateDeckModel" "wishedName") ∈ lw_all := lw_g (lw_at lw_m7 217 rfl) rfl
theorem q1743 : (Jvm.Cond.laysFinal "CrateDeckModel" "CrateDeckModel" "wishedImage" "[I") ∈ lw_all := lw_g (lw_at lw_m7 218 rfl) rfl
theorem q1744 : (Jvm.Cond.soleField "CrateDeckModel" "wishedImage") ∈ lw_all := lw_g (lw_at lw_m7 219 rfl) rfl
theorem q1745 : (Jvm.Cond.laysFinal "CrateDeckModel" "CrateDeckModel" "before" "[I") ∈ lw_all := lw_g (lw_at lw_m7 220 rfl) rfl
theorem q1746 : (Jvm.Cond.soleField "CrateDeckModel" "before") ∈ lw_all := lw_g (lw_at lw_m7 221 rfl) rfl
theorem q1747 : (Jvm.Cond.laysFinal "CrateDeckModel" "CrateDeckModel" "wished" "[I") ∈ lw_all := lw_g (lw_at lw_m7 222 rfl) rfl
theorem q1748 : (Jvm.Cond.soleField "CrateDeckModel" "wished") ∈ lw_all := lw_g (lw_at lw_m7 223 rfl) rfl
theorem q1749 : (Jvm.Cond.laysFinal "CrateDeckModel" "CrateDeckModel" "failures" "[I") ∈ lw_all := lw_g (lw_at lw_m7 224 rfl) rfl
theorem q1750 : (Jvm.Cond.soleField "CrateDeckModel" "failures") ∈ lw_all := lw_g (lw_at lw_m7 225 rfl) rfl
theorem q1751 : (Jvm.Cond.superclass "CrateDeckModel" "java/lang/Object") ∈ lw_all := lw_g (lw_at lw_m7 226 rfl) rfl
theorem q1754 : (Jvm.Cond.instanceMethod ({ cls := "CrateDeckModel", name := "thrown", desc := "()I" } : Jvm.MethodName)) ∈ lw_all := lw_g (lw_at lw_m7 229 rfl) rfl
theorem q1755 : (Jvm.Cond.selects "CrateDeckModel" ({ cls := "CrateDeckModel", name := "thrown", desc := "()I" } : Jvm.MethodName) ({ cls := "CrateDeckModel", name := "thrown", desc := "()I" } : Jvm.MethodName)) ∈ lw_all := lw_g (lw_at lw_m7 230 rfl) rfl
theorem q1756 : (Jvm.Cond.code ({ cls := "CrateDeckModel", name := "thrown", desc := "()I" } : Jvm.MethodName) prog_17_method_2_code (1 : Nat) (Option.some Jvm.ClassFile.FieldType.int)) ∈ lw_all := lw_g (lw_at lw_m7 231 rfl) rfl
theorem q1758 : (Jvm.Cond.instanceMethod ({ cls := "CrateDeckModel", name := "entry", desc := "(III)I" } : Jvm.MethodName)) ∈ lw_all := lw_g (lw_at lw_m7 233 rfl) rfl
theorem q1759 : (Jvm.Cond.selects "CrateDeckModel" ({ cls := "CrateDeckModel", name := "entry", desc := "(III)I" } : Jvm.MethodName) ({ cls := "CrateDeckModel", name := "entry", desc := "(III)I" } : Jvm.MethodName)) ∈ lw_all := lw_g (lw_at lw_m7 234 rfl) rfl
theorem q1760 : (Jvm.Cond.code ({ cls := "CrateDeckModel", name := "entry", desc := "(III)I" } : Jvm.MethodName) prog_17_method_15_code (6 : Nat) (Option.some Jvm.ClassFile.FieldType.int)) ∈ lw_all := lw_g (lw_at lw_m7 235 rfl) rfl
theorem q1761 : (Jvm.Cond.methodLink "CrateDeckModel" (221 : Nat) ({ cls := "CrateDeckModel", name := "isPath", desc := "(I)Z" } : Jvm.MethodName)) ∈ lw_all := lw_g (lw_at lw_m7 236 rfl) rfl
theorem q1762 : (Jvm.Cond.static ({ cls := "CrateDeckModel", name := "isPath", desc := "(I)Z" } : Jvm.MethodName)) ∈ lw_all := lw_g (lw_at lw_m7 237 rfl) rfl
theorem q1763 : (Jvm.Cond.code ({ cls := "CrateDeckModel", name := "isPath", desc := "(I)Z" } : Jvm.MethodName) prog_17_method_5_code (1 : Nat) (Option.some Jvm.ClassFile.FieldType.boolean)) ∈ lw_all := lw_g (lw_at lw_m7 238 rfl) rfl
theorem q1764 : (Jvm.Cond.methodLink "CrateDeckModel" (192 : Nat) ({ cls := "CrateDeckModel", name := "in", desc := "(III)Z" } : Jvm.MethodName)) ∈ lw_all := lw_g (lw_at lw_m7 239 rfl) rfl
theorem q1765 : (Jvm.Cond.static ({ cls := "CrateDeckModel", name := "in", desc := "(III)Z" } : Jvm.MethodName)) ∈ lw_all := lw_g (lw_at lw_m8 0 rfl) rfl
theorem q1766 : (Jvm.Cond.code ({ cls := "CrateDeckModel", name := "in", desc := "(III)Z" } : Jvm.MethodName) prog_17_method_4_code (3 : Nat) (Option.some Jvm.ClassFile.FieldType.boolean)) ∈ lw_all := lw_g (lw_at lw_m8 1 rfl) rfl
theorem q1767 : (Jvm.Cond.methodLink "CrateDeckModel" (228 : Nat) ({ cls := "CrateDeckModel", name := "fails", desc := "(I)I" } : Jvm.MethodName)) ∈ lw_all := lw_g (lw_at lw_m8 2 rfl) rfl
theorem q1768 : (Jvm.Cond.privateMethod ({ cls := "CrateDeckModel", name := "fails", desc := "(I)I" } : Jvm.MethodName)) ∈ lw_tbl := lw_at lw_m8 3 rfl
theorem q1769 : (Jvm.Cond.instanceMethod ({ cls := "CrateDeckModel", name := "fails", desc := "(I)I" } : Jvm.MethodName)) ∈ lw_all := lw_g (lw_at lw_m8 4 rfl) rfl
theorem q1770 : (Jvm.Cond.code ({ cls := "CrateDeckModel", name := "fails", desc := "(I)I" } : Jvm.MethodName) prog_17_method_3_code (2 : Nat) (Option.some Jvm.ClassFile.FieldType.int)) ∈ lw_all := lw_g (lw_at lw_m8 5 rfl) rfl
theorem q1772 : (Jvm.Cond.instanceMethod ({ cls := "CrateDeckModel", name := "layer", desc := "()I" } : Jvm.MethodName)) ∈ lw_all := lw_g (lw_at lw_m8 7 rfl) rfl
theorem q1773 : (Jvm.Cond.selects "CrateDeckModel" ({ cls := "CrateDeckModel", name := "layer", desc := "()I" } : Jvm.MethodName) ({ cls := "CrateDeckModel", name := "layer", desc := "()I" } : Jvm.MethodName)) ∈ lw_all := lw_g (lw_at lw_m8 8 rfl) rfl
theorem q1774 : (Jvm.Cond.code ({ cls := "CrateDeckModel", name := "layer", desc := "()I" } : Jvm.MethodName) prog_17_method_18_code (2 : Nat) (Option.some Jvm.ClassFile.FieldType.int)) ∈ lw_all := lw_g (lw_at lw_m8 9 rfl) rfl
theorem q1775 : (Jvm.Cond.methodLink "CrateDeckModel" (237 : Nat) ({ cls := "CrateDeckModel", name := "sameLayer", desc := "()I" } : Jvm.MethodName)) ∈ lw_all := lw_g (lw_at lw_m8 10 rfl) rfl
theorem q1776 : (Jvm.Cond.privateMethod ({ cls := "CrateDeckModel", name := "sameLayer", desc := "()I" } : Jvm.MethodName)) ∈ lw_tbl := lw_at lw_m8 11 rfl
theorem q1777 : (Jvm.Cond.instanceMethod ({ cls := "CrateDeckModel", name := "sameLayer", desc := "()I" } : Jvm.MethodName)) ∈ lw_all := lw_g (lw_at lw_m8 12 rfl) rfl
theorem q1778 : (Jvm.Cond.code ({ cls := "CrateDeckModel", name := "sameLayer", desc := "()I" } : Jvm.MethodName) prog_17_method_16_code (6 : Nat) (Option.some Jvm.ClassFile.FieldType.int)) ∈ lw_all := lw_g (lw_at lw_m8 13 rfl) rfl
theorem q1779 : (Jvm.Cond.methodLink "CrateDeckModel" (207 : Nat) ({ cls := "CrateDeckModel", name := "entryOf", desc := "(II)I" } : Jvm.MethodName)) ∈ lw_all := lw_g (lw_at lw_m8 14 rfl) rfl
theorem q1780 : (Jvm.Cond.privateMethod ({ cls := "CrateDeckModel", name := "entryOf", desc := "(II)I" } : Jvm.MethodName)) ∈ lw_tbl := lw_at lw_m8 15 rfl
theorem q1781 : (Jvm.Cond.instanceMethod ({ cls := "CrateDeckModel", name := "entryOf", desc := "(II)I" } : Jvm.MethodName)) ∈ lw_all := lw_g (lw_at lw_m8 16 rfl) rfl
theorem q1782 : (Jvm.Cond.code ({ cls := "CrateDeckModel", name := "entryOf", desc := "(II)I" } : Jvm.MethodName) prog_17_method_11_code (5 : Nat) (Option.some Jvm.ClassFile.FieldType.int)) ∈ lw_all := lw_g (lw_at lw_m8 17 rfl) rfl
theorem q1783 : (Jvm.Cond.methodLink "CrateDeckModel" (196 : Nat) ({ cls := "CrateDeckModel", name := "first", desc := "(I)I" } : Jvm.MethodName)) ∈ lw_all := lw_g (lw_at lw_m8 18 rfl) rfl
theorem q1784 : (Jvm.Cond.privateMethod ({ cls := "CrateDeckModel", name := "first", desc := "(I)I" } : Jvm.MethodName)) ∈ lw_tbl := lw_at lw_m8 19 rfl
theorem q1785 : (Jvm.Cond.instanceMethod ({ cls := "CrateDeckModel", name := "first", desc := "(I)I" } : Jvm.MethodName)) ∈ lw_all := lw_g (lw_at lw_m8 20 rfl) rfl
theorem q1786 : (Jvm.Cond.code ({ cls := "CrateDeckModel", name := "first", desc := "(I)I" } : Jvm.MethodName) prog_17_method_8_code (2 : Nat) (Option.some Jvm.ClassFile.FieldType.int)) ∈ lw_all := lw_g (lw_at lw_m8 21 rfl) rfl
theorem q1787 : (Jvm.Cond.methodLink "CrateDeckModel" (200 : Nat) ({ cls := "CrateDeckModel", name := "many", desc := "(I)I" } : Jvm.MethodName)) ∈ lw_all := lw_g (lw_at lw_m8 22 rfl) rfl
theorem q1788 : (Jvm.Cond.privateMethod ({ cls := "CrateDeckModel", name := "many", desc := "(I)I" } : Jvm.MethodName)) ∈ lw_tbl := lw_at lw_m8 23 rfl
theorem q1789 : (Jvm.Cond.instanceMethod ({ cls := "CrateDeckModel", name := "many", desc := "(I)I" } : Jvm.MethodName)) ∈ lw_all := lw_g (lw_at lw_m8 24 rfl) rfl
theorem q1790 : (Jvm.Cond.code ({ cls := "CrateDeckModel", name := "many", desc := "(I)I" } : Jvm.MethodName) prog_17_method_9_code (2 : Nat) (Option.some Jvm.ClassFile.FieldType.int)) ∈ lw_all := lw_g (lw_at lw_m8 25 rfl) rfl
theorem q1791 : (Jvm.Cond.methodLink "CrateDeckModel" (203 : Nat) ({ cls := "CrateDeckModel", name := "pathAt", desc := "(II)I" } : Jvm.MethodName)) ∈ lw_all := lw_g (lw_at lw_m8 26 rfl) rfl
theorem q1792 : (Jvm.Cond.privateMethod ({ cls := "CrateDeckModel", name := "pathAt", desc := "(II)I" } : Jvm.MethodName)) ∈ lw_tbl := lw_at lw_m8 27 rfl
theorem q1793 : (Jvm.Cond.instanceMethod ({ cls := "CrateDeckModel", name := "pathAt", desc := "(II)I" } : Jvm.MethodName)) ∈ lw_all := lw_g (lw_at lw_m8 28 rfl) rfl
theorem q1794 : (Jvm.Cond.code ({ cls := "CrateDeckModel", name := "pathAt", desc := "(II)I" } : Jvm.MethodName) prog_17_method_10_code (3 : Nat) (Option.some Jvm.ClassFile.FieldType.int)) ∈ lw_all := lw_g (lw_at lw_m8 29 rfl) rfl
theorem q1795 : (Jvm.Cond.methodLink "CrateDeckModel" (244 : Nat) ({ cls := "CrateDeckModel", name := "lays", desc := "()I" } : Jvm.MethodName)) ∈ lw_all := lw_g (lw_at lw_m8 30 rfl) rfl
theorem q1796 : (Jvm.Cond.privateMethod ({ cls := "CrateDeckModel", name := "lays", desc := "()I" } : Jvm.MethodName)) ∈ lw_tbl := lw_at lw_m8 31 rfl
theorem q1797 : (Jvm.Cond.instanceMethod ({ cls := "CrateDeckModel", name := "lays", desc := "()I" } : Jvm.MethodName)) ∈ lw_all := lw_g (lw_at lw_m8 32 rfl) rfl
theorem q1798 : (Jvm.Cond.code ({ cls := "CrateDeckModel", name := "lays", desc := "()I" } : Jvm.MethodName) prog_17_method_17_code (3 : Nat) (Option.some Jvm.ClassFile.FieldType.int)) ∈ lw_all := lw_g (lw_at lw_m8 33 rfl) rfl
theorem q1800 : (Jvm.Cond.instanceMethod ({ cls := "CrateDeckModel", name := "image", desc := "(II)I" } : Jvm.MethodName)) ∈ lw_all := lw_g (lw_at lw_m8 35 rfl) rfl
theorem q1801 : (Jvm.Cond.selects "CrateDeckModel" ({ cls := "CrateDeckModel", name := "image", desc := "(II)I" } : Jvm.MethodName) ({ cls := "CrateDeckModel", name := "image", desc := "(II)I" } : Jvm.MethodName)) ∈ lw_all := lw_g (lw_at lw_m8 36 rfl) rfl
theorem q1802 : (Jvm.Cond.code ({ cls := "CrateDeckModel", name := "image", desc := "(II)I" } : Jvm.MethodName) prog_17_method_22_code (3 : Nat) (Option.some Jvm.ClassFile.FieldType.int)) ∈ lw_all := lw_g (lw_at lw_m8 37 rfl) rfl
theorem q1803 : (Jvm.Cond.methodLink "CrateDeckModel" (250 : Nat) ({ cls := "CrateDeckModel", name := "isImage", desc := "(I)Z" } : Jvm.MethodName)) ∈ lw_all := lw_g (lw_at lw_m8 38 rfl) rfl
theorem q1804 : (Jvm.Cond.privateMethod ({ cls := "CrateDeckModel", name := "isImage", desc := "(I)Z" } : Jvm.MethodName)) ∈ lw_tbl := lw_at lw_m8 39 rfl
theorem q1805 : (Jvm.Cond.instanceMethod ({ cls := "CrateDeckModel", name := "isImage", desc := "(I)Z" } : Jvm.MethodName)) ∈ lw_all := lw_g (lw_at lw_m8 40 rfl) rfl
theorem q1806 : (Jvm.Cond.code ({ cls := "CrateDeckModel", name := "isImage", desc := "(I)Z" } : Jvm.MethodName) prog_17_method_7_code (2 : Nat) (Option.some Jvm.ClassFile.FieldType.boolean)) ∈ lw_all := lw_g (lw_at lw_m8 41 rfl) rfl
theorem q1807 : (Jvm.Cond.methodLink "CrateDeckModel" (253 : Nat) ({ cls := "CrateDeckModel", name := "canStack", desc := "(II)Z" } : Jvm.MethodName)) ∈ lw_all := lw_g (lw_at lw_m8 42 rfl) rfl
theorem q1808 : (Jvm.Cond.privateMethod ({ cls := "CrateDeckModel", name := "canStack", desc := "(II)Z" } : Jvm.MethodName)) ∈ lw_tbl := lw_at lw_m8 43 rfl
theorem q1809 : (Jvm.Cond.instanceMethod ({ cls := "CrateDeckModel", name := "canStack", desc := "(II)Z" } : Jvm.MethodName)) ∈ lw_all := lw_g (lw_at lw_m8 44 rfl) rfl
theorem q1810 : (Jvm.Cond.code ({ cls := "CrateDeckModel", name := "canStack", desc := "(II)Z" } : Jvm.MethodName) prog_17_method_20_code (3 : Nat) (Option.some Jvm.ClassFile.FieldType.boolean)) ∈ lw_all := lw_g (lw_at lw_m8 45 rfl) rfl
theorem q1811 : (Jvm.Cond.methodLink "CrateDeckModel" (247 : Nat) ({ cls := "CrateDeckModel", name := "sameImage", desc := "(II)I" } : Jvm.MethodName)) ∈ lw_all := lw_g (lw_at lw_m8 46 rfl) rfl
theorem q1812 : (Jvm.Cond.privateMethod ({ cls := "CrateDeckModel", name := "sameImage", desc := "(II)I" } : Jvm.MethodName)) ∈ lw_tbl := lw_at lw_m8 47 rfl
theorem q1813 : (Jvm.Cond.instanceMethod ({ cls := "CrateDeckModel", name := "sameImage", desc := "(II)I" } : Jvm.MethodName)) ∈ lw_all := lw_g (lw_at lw_m8 48 rfl) rfl
theorem q1814 : (Jvm.Cond.code ({ cls := "CrateDeckModel", name := "sameImage", desc := "(II)I" } : Jvm.MethodName) prog_17_method_19_code (7 : Nat) (Option.some Jvm.ClassFile.FieldType.int)) ∈ lw_all := lw_g (lw_at lw_m8 49 rfl) rfl
theorem q1815 : (Jvm.Cond.methodLink "CrateDeckModel" (256 : Nat) ({ cls := "CrateDeckModel", name := "stacks", desc := "(II)I" } : Jvm.MethodName)) ∈ lw_all := lw_g (lw_at lw_m8 50 rfl) rfl
theorem q1816 : (Jvm.Cond.privateMethod ({ cls := "CrateDeckModel", name := "stacks", desc := "(II)I" } : Jvm.MethodName)) ∈ lw_tbl := lw_at lw_m8 51 rfl
theorem q1817 : (Jvm.Cond.instanceMethod ({ cls := "CrateDeckModel", name := "stacks", desc := "(II)I" } : Jvm.MethodName)) ∈ lw_all := lw_g (lw_at lw_m8 52 rfl) rfl
theorem q1818 : (Jvm.Cond.code ({ cls := "CrateDeckModel", name := "stacks", desc := "(II)I" } : Jvm.MethodName) prog_17_method_21_code (5 : Nat) (Option.some Jvm.ClassFile.FieldType.int)) ∈ lw_all := lw_g (lw_at lw_m8 53 rfl) rfl
theorem q1820 : (Jvm.Cond.instanceMethod ({ cls := "CrateDeckModel", name := "shows", desc := "(II)I" } : Jvm.MethodName)) ∈ lw_all := lw_g (lw_at lw_m8 55 rfl) rfl
theorem q1821 : (Jvm.Cond.selects "CrateDeckModel" ({ cls := "CrateDeckModel", name := "shows", desc := "(II)I" } : Jvm.MethodName) ({ cls := "CrateDeckModel", name := "shows", desc := "(II)I" } : Jvm.MethodName)) ∈ lw_all := lw_g (lw_at lw_m8 56 rfl) rfl
theorem q1822 : (Jvm.Cond.code ({ cls := "CrateDeckModel", name := "shows", desc := "(II)I" } : Jvm.MethodName) prog_17_method_23_code (3 : Nat) (Option.some Jvm.ClassFile.FieldType.int)) ∈ lw_all := lw_g (lw_at lw_m8 57 rfl) rfl
theorem q1823 : (Jvm.Cond.methodLink "CrateDeckModel" (259 : Nat) ({ cls := "CrateDeckModel", name := "shown", desc := "(III)I" } : Jvm.MethodName)) ∈ lw_all := lw_g (lw_at lw_m8 58 rfl) rfl
theorem q1824 : (Jvm.Cond.privateMethod ({ cls := "CrateDeckModel", name := "shown", desc := "(III)I" } : Jvm.MethodName)) ∈ lw_tbl := lw_at lw_m8 59 rfl
theorem q1825 : (Jvm.Cond.instanceMethod ({ cls := "CrateDeckModel", name := "shown", desc := "(III)I" } : Jvm.MethodName)) ∈ lw_all := lw_g (lw_at lw_m8 60 rfl) rfl
theorem q1826 : (Jvm.Cond.code ({ cls := "CrateDeckModel", name := "shown", desc := "(III)I" } : Jvm.MethodName) prog_17_method_14_code (17 : Nat) (Option.some Jvm.ClassFile.FieldType.int)) ∈ lw_all := lw_g (lw_at lw_m8 61 rfl) rfl
theorem q1827 : (Jvm.Cond.methodLink "CrateDeckModel" (214 : Nat) ({ cls := "CrateDeckModel", name := "sourceAt", desc := "(III)I" } : Jvm.MethodName)) ∈ lw_all := lw_g (lw_at lw_m8 62 rfl) rfl
theorem q1828 : (Jvm.Cond.privateMethod ({ cls := "CrateDeckModel", name := "sourceAt", desc := "(III)I" } : Jvm.MethodName)) ∈ lw_tbl := lw_at lw_m8 63 rfl
theorem q1829 : (Jvm.Cond.instanceMethod ({ cls := "CrateDeckModel", name := "sourceAt", desc := "(III)I" } : Jvm.MethodName)) ∈ lw_all := lw_g (lw_at lw_m8 64 rfl) rfl
theorem q1830 : (Jvm.Cond.code ({ cls := "CrateDeckModel", name := "sourceAt", desc := "(III)I" } : Jvm.MethodName) prog_17_method_13_code (4 : Nat) (Option.some Jvm.ClassFile.FieldType.int)) ∈ lw_all := lw_g (lw_at lw_m8 65 rfl) rfl
theorem q1831 : (Jvm.Cond.methodLink "CrateDeckModel" (218 : Nat) ({ cls := "CrateDeckModel", name := "kindOf", desc := "(II)I" } : Jvm.MethodName)) ∈ lw_all := lw_g (lw_at lw_m8 66 rfl) rfl
theorem q1832 : (Jvm.Cond.privateMethod ({ cls := "CrateDeckModel", name := "kindOf", desc := "(II)I" } : Jvm.MethodName)) ∈ lw_tbl := lw_at lw_m8 67 rfl
theorem q1833 : (Jvm.Cond.instanceMethod ({ cls := "CrateDeckModel", name := "kindOf", desc := "(II)I" } : Jvm.MethodName)) ∈ lw_all := lw_g (lw_at lw_m8 68 rfl) rfl
theorem q1834 : (Jvm.Cond.code ({ cls := "CrateDeckModel", name := "kindOf", desc := "(II)I" } : Jvm.MethodName) prog_17_method_12_code (6 : Nat) (Option.some Jvm.ClassFile.FieldType.int)) ∈ lw_all := lw_g (lw_at lw_m8 69 rfl) rfl
theorem q1835 : (Jvm.Cond.methodLink "CrateDeckModel" (210 : Nat) ({ cls := "CrateDeckModel", name := "isWithin", desc := "(II)Z" } : Jvm.MethodName)) ∈ lw_all := lw_g (lw_at lw_m8 70 rfl) rfl
theorem q1836 : (Jvm.Cond.static ({ cls := "CrateDeckModel", name := "isWithin", desc := "(II)Z" } : Jvm.MethodName)) ∈ lw_all := lw_g (lw_at lw_m8 71 rfl) rfl
theorem q1837 : (Jvm.Cond.code ({ cls := "CrateDeckModel", name := "isWithin", desc := "(II)Z" } : Jvm.MethodName) prog_17_method_6_code (2 : Nat) (Option.some Jvm.ClassFile.FieldType.boolean)) ∈ lw_all := lw_g (lw_at lw_m8 72 rfl) rfl
theorem q1839 : (Jvm.Cond.instanceMethod ({ cls := "CrateDeckModel", name := "showsByAll", desc := "(II)I" } : Jvm.MethodName)) ∈ lw_all := lw_g (lw_at lw_m8 74 rfl) rfl
theorem q1840 : (Jvm.Cond.selects "CrateDeckModel" ({ cls := "CrateDeckModel", name := "showsByAll", desc := "(II)I" } : Jvm.MethodName) ({ cls := "CrateDeckModel", name := "showsByAll", desc := "(II)I" } : Jvm.MethodName)) ∈ lw_all := lw_g (lw_at lw_m8 75 rfl) rfl
theorem q1841 : (Jvm.Cond.code ({ cls := "CrateDeckModel", name := "showsByAll", desc := "(II)I" } : Jvm.MethodName) prog_17_method_24_code (3 : Nat) (Option.some Jvm.ClassFile.FieldType.int)) ∈ lw_all := lw_g (lw_at lw_m8 76 rfl) rfl
theorem q1842 : (Jvm.Cond.methodLink "CrateDeckModel" (262 : Nat) ({ cls := "CrateDeckModel", name := "shows", desc := "(II)I" } : Jvm.MethodName)) ∈ lw_all := lw_g (lw_at lw_m8 77 rfl) rfl
theorem q1844 : (Jvm.Cond.instanceMethod ({ cls := "CrateDeckModel", name := "start", desc := "(II)I" } : Jvm.MethodName)) ∈ lw_all := lw_g (lw_at lw_m8 79 rfl) rfl
theorem q1845 : (Jvm.Cond.selects "CrateDeckModel" ({ cls := "CrateDeckModel", name := "start", desc := "(II)I" } : Jvm.MethodName) ({ cls := "CrateDeckModel", name := "start", desc := "(II)I" } : Jvm.MethodName)) ∈ lw_all := lw_g (lw_at lw_m8 80 rfl) rfl
theorem q1846 : (Jvm.Cond.code ({ cls := "CrateDeckModel", name := "start", desc := "(II)I" } : Jvm.MethodName) prog_17_method_31_code (3 : Nat) (Option.some Jvm.ClassFile.FieldType.int)) ∈ lw_all := lw_g (lw_at lw_m8 81 rfl) rfl
theorem q1847 : (Jvm.Cond.methodLink "CrateDeckModel" (274 : Nat) ({ cls := "CrateDeckModel", name := "canStart", desc := "(I)Z" } : Jvm.MethodName)) ∈ lw_all := lw_g (lw_at lw_m8 82 rfl) rfl
theorem q1848 : (Jvm.Cond.privateMethod ({ cls := "CrateDeckModel", name := "canStart", desc := "(I)Z" } : Jvm.MethodName)) ∈ lw_tbl := lw_at lw_m8 83 rfl
theorem q1849 : (Jvm.Cond.instanceMethod ({ cls := "CrateDeckModel", name := "canStart", desc := "(I)Z" } : Jvm.MethodName)) ∈ lw_all := lw_g (lw_at lw_m8 84 rfl) rfl
theorem q1850 : (Jvm.Cond.code ({ cls := "CrateDeckModel", name := "canStart", desc := "(I)Z" } : Jvm.MethodName) prog_17_method_28_code (2 : Nat) (Option.some Jvm.ClassFile.FieldType.boolean)) ∈ lw_all := lw_g (lw_at lw_m8 85 rfl) rfl
theorem q1851 : (Jvm.Cond.methodLink "CrateDeckModel" (265 : Nat) ({ cls := "CrateDeckModel", name := "here", desc := "()I" } : Jvm.MethodName)) ∈ lw_all := lw_g (lw_at lw_m8 86 rfl) rfl
theorem q1852 : (Jvm.Cond.privateMethod ({ cls := "CrateDeckModel", name := "here", desc := "()I" } : Jvm.MethodName)) ∈ lw_tbl := lw_at lw_m8 87 rfl
theorem q1853 : (Jvm.Cond.instanceMethod ({ cls := "CrateDeckModel", name := "here", desc := "()I" } : Jvm.MethodName)) ∈ lw_all := lw_g (lw_at lw_m8 88 rfl) rfl
theorem q1854 : (Jvm.Cond.code ({ cls := "CrateDeckModel", name := "here", desc := "()I" } : Jvm.MethodName) prog_17_method_26_code (3 : Nat) (Option.some Jvm.ClassFile.FieldType.int)) ∈ lw_all := lw_g (lw_at lw_m8 89 rfl) rfl
theorem q1855 : (Jvm.Cond.methodLink "CrateDeckModel" (268 : Nat) ({ cls := "CrateDeckModel", name := "layersOf", desc := "(I)I" } : Jvm.MethodName)) ∈ lw_all := lw_g (lw_at lw_m8 90 rfl) rfl
theorem q1856 : (Jvm.Cond.privateMethod ({ cls := "CrateDeckModel", name := "layersOf", desc := "(I)I" } : Jvm.MethodName)) ∈ lw_tbl := lw_at lw_m8 91 rfl
theorem q1857 : (Jvm.Cond.instanceMethod ({ cls := "CrateDeckModel", name := "layersOf", desc := "(I)I" } : Jvm.MethodName)) ∈ lw_all := lw_g (lw_at lw_m8 92 rfl) rfl
theorem q1858 : (Jvm.Cond.code ({ cls := "CrateDeckModel", name := "layersOf", desc := "(I)I" } : Jvm.MethodName) prog_17_method_27_code (4 : Nat) (Option.some Jvm.ClassFile.FieldType.int)) ∈ lw_all := lw_g (lw_at lw_m8 93 rfl) rfl
theorem q1859 : (Jvm.Cond.methodLink "CrateDeckModel" (277 : Nat) ({ cls := "CrateDeckModel", name := "starts", desc := "(III)I" } : Jvm.MethodName)) ∈ lw_all := lw_g (lw_at lw_m8 94 rfl) rfl
theorem q1860 : (Jvm.Cond.privateMethod ({ cls := "CrateDeckModel", name := "starts", desc := "(III)I" } : Jvm.MethodName)) ∈ lw_tbl := lw_at lw_m8 95 rfl
theorem q1861 : (Jvm.Cond.instanceMethod ({ cls := "CrateDeckModel", name := "starts", desc := "(III)I" } : Jvm.MethodName)) ∈ lw_all := lw_g (lw_at lw_m8 96 rfl) rfl
theorem q1862 : (Jvm.Cond.code ({ cls := "CrateDeckModel", name := "starts", desc := "(III)I" } : Jvm.MethodName) prog_17_method_29_code (6 : Nat) (Option.some Jvm.ClassFile.FieldType.int)) ∈ lw_all := lw_g (lw_at lw_m8 97 rfl) rfl
theorem q1864 : (Jvm.Cond.instanceMethod ({ cls := "CrateDeckModel", name := "stop", desc := "(I)I" } : Jvm.MethodName)) ∈ lw_all := lw_g (lw_at lw_m8 99 rfl) rfl
theorem q1865 : (Jvm.Cond.selects "CrateDeckModel" ({ cls := "CrateDeckModel", name := "stop", desc := "(I)I" } : Jvm.MethodName) ({ cls := "CrateDeckModel", name := "stop", desc := "(I)I" } : Jvm.MethodName)) ∈ lw_all := lw_g (lw_at lw_m8 100 rfl) rfl
theorem q1866 : (Jvm.Cond.code ({ cls := "CrateDeckModel", name := "stop", desc := "(I)I" } : Jvm.MethodName) prog_17_method_32_code (3 : Nat) (Option.some Jvm.ClassFile.FieldType.int)) ∈ lw_all := lw_g (lw_at lw_m8 101 rfl) rfl
theorem q1867 : (Jvm.Cond.methodLink "CrateDeckModel" (280 : Nat) ({ cls := "CrateDeckModel", name := "placeOf", desc := "(I)I" } : Jvm.MethodName)) ∈ lw_all := lw_g (lw_at lw_m8 102 rfl) rfl
theorem q1868 : (Jvm.Cond.privateMethod ({ cls := "CrateDeckModel", name := "placeOf", desc := "(I)I" } : Jvm.MethodName)) ∈ lw_tbl := lw_at lw_m8 103 rfl
theorem q1869 : (Jvm.Cond.instanceMethod ({ cls := "CrateDeckModel", name := "placeOf", desc := "(I)I" } : Jvm.MethodName)) ∈ lw_all := lw_g (lw_at lw_m8 104 rfl) rfl
theorem q1870 : (Jvm.Cond.code ({ cls := "CrateDeckModel", name := "placeOf", desc := "(I)I" } : Jvm.MethodName) prog_17_method_25_code (4 : Nat) (Option.some Jvm.ClassFile.FieldType.int)) ∈ lw_all := lw_g (lw_at lw_m8 105 rfl) rfl
theorem q1871 : (Jvm.Cond.methodLink "CrateDeckModel" (283 : Nat) ({ cls := "CrateDeckModel", name := "stops", desc := "(I)V" } : Jvm.MethodName)) ∈ lw_all := lw_g (lw_at lw_m8 106 rfl) rfl
theorem q1872 : (Jvm.Cond.privateMethod ({ cls := "CrateDeckModel", name := "stops", desc := "(I)V" } : Jvm.MethodName)) ∈ lw_tbl := lw_at lw_m8 107 rfl
theorem q1873 : (Jvm.Cond.instanceMethod ({ cls := "CrateDeckModel", name := "stops", desc := "(I)V" } : Jvm.MethodName)) ∈ lw_all := lw_g (lw_at lw_m8 108 rfl) rfl
theorem q1874 : (Jvm.Cond.code ({ cls := "CrateDeckModel", name := "stops", desc := "(I)V" } : Jvm.MethodName) prog_17_method_30_code (3 : Nat) (Option.none : Option Jvm.ClassFile.FieldType)) ∈ lw_all := lw_g (lw_at lw_m8 109 rfl) rfl
theorem q1876 : (Jvm.Cond.instanceMethod ({ cls := "CrateDeckModel", name := "container", desc := "(II)I" } : Jvm.MethodName)) ∈ lw_all := lw_g (lw_at lw_m8 111 rfl) rfl
theorem q1877 : (Jvm.Cond.selects "CrateDeckModel" ({ cls := "CrateDeckModel", name := "container", desc := "(II)I" } : Jvm.MethodName) ({ cls := "CrateDeckModel", name := "container", desc := "(II)I" } : Jvm.MethodName)) ∈ lw_all := lw_g (lw_at lw_m8 112 rfl) rfl
theorem q1878 : (Jvm.Cond.code ({ cls := "CrateDeckModel", name := "container", desc := "(II)I" } : Jvm.MethodName) prog_17_method_33_code (6 : Nat) (Option.some Jvm.ClassFile.FieldType.int)) ∈ lw_all := lw_g (lw_at lw_m8 113 rfl) rfl
theorem q1880 : (Jvm.Cond.instanceMethod ({ cls := "CrateDeckModel", name := "look", desc := "(II)I" } : Jvm.MethodName)) ∈ lw_all := lw_g (lw_at lw_m8 115 rfl) rfl
theorem q1881 : (Jvm.Cond.selects "CrateDeckModel" ({ cls := "CrateDeckModel", name := "look", desc := "(II)I" } : Jvm.MethodName) ({ cls := "CrateDeckModel", name := "look", desc := "(II)I" } : Jvm.MethodName)) ∈ lw_all := lw_g (lw_at lw_m8 116 rfl) rfl
theorem q1882 : (Jvm.Cond.code ({ cls := "CrateDeckModel", name := "look", desc := "(II)I" } : Jvm.MethodName) prog_17_method_38_code (4 : Nat) (Option.some Jvm.ClassFile.FieldType.int)) ∈ lw_all := lw_g (lw_at lw_m8 117 rfl) rfl
theorem q1883 : (Jvm.Cond.methodLink "CrateDeckModel" (293 : Nat) ({ cls := "CrateDeckModel", name := "looks", desc := "(II)I" } : Jvm.MethodName)) ∈ lw_all := lw_g (lw_at lw_m8 118 rfl) rfl
theorem q1884 : (Jvm.Cond.privateMethod ({ cls := "CrateDeckModel", name := "looks", desc := "(II)I" } : Jvm.MethodName)) ∈ lw_tbl := lw_at lw_m8 119 rfl
theorem q1885 : (Jvm.Cond.instanceMethod ({ cls := "CrateDeckModel", name := "looks", desc := "(II)I" } : Jvm.MethodName)) ∈ lw_all := lw_g (lw_at lw_m8 120 rfl) rfl
theorem q1886 : (Jvm.Cond.code ({ cls := "CrateDeckModel", name := "looks", desc := "(II)I" } : Jvm.MethodName) prog_17_method_37_code (4 : Nat) (Option.some Jvm.ClassFile.FieldType.int)) ∈ lw_all := lw_g (lw_at lw_m8 121 rfl) rfl
theorem q1887 : (Jvm.Cond.methodLink "CrateDeckModel" (287 : Nat) ({ cls := "CrateDeckModel", name := "mounted", desc := "(II)I" } : Jvm.MethodName)) ∈ lw_all := lw_g (lw_at lw_m8 122 rfl) rfl
theorem q1888 : (Jvm.Cond.privateMethod ({ cls := "CrateDeckModel", name := "mounted", desc := "(II)I" } : Jvm.MethodName)) ∈ lw_tbl := lw_at lw_m8 123 rfl
theorem q1889 : (Jvm.Cond.instanceMethod ({ cls := "CrateDeckModel", name := "mounted", desc := "(II)I" } : Jvm.MethodName)) ∈ lw_all := lw_g (lw_at lw_m8 124 rfl) rfl
theorem q1890 : (Jvm.Cond.code ({ cls := "CrateDeckModel", name := "mounted", desc := "(II)I" } : Jvm.MethodName) prog_17_method_34_code (3 : Nat) (Option.some Jvm.ClassFile.FieldType.int)) ∈ lw_all := lw_g (lw_at lw_m8 125 rfl) rfl
theorem q1891 : (Jvm.Cond.methodLink "CrateDeckModel" (290 : Nat) ({ cls := "CrateDeckModel", name := "isInVolume", desc := "(II)Z" } : Jvm.MethodName)) ∈ lw_all := lw_g (lw_at lw_m8 126 rfl) rfl
theorem q1892 : (Jvm.Cond.privateMethod ({ cls := "CrateDeckModel", name := "isInVolume", desc := "(II)Z" } : Jvm.MethodName)) ∈ lw_tbl := lw_at lw_m8 127 rfl
theorem q1893 : (Jvm.Cond.instanceMethod ({ cls := "CrateDeckModel", name := "isInVolume", desc := "(II)Z" } : Jvm.MethodName)) ∈ lw_all := lw_g (lw_at lw_m8 128 rfl) rfl
theorem q1894 : (Jvm.Cond.code ({ cls := "CrateDeckModel", name := "isInVolume", desc := "(II)Z" } : Jvm.MethodName) prog_17_method_35_code (3 : Nat) (Option.some Jvm.ClassFile.FieldType.boolean)) ∈ lw_all := lw_g (lw_at lw_m8 129 rfl) rfl
theorem q1896 : (Jvm.Cond.instanceMethod ({ cls := "CrateDeckModel", name := "write", desc := "(III)I" } : Jvm.MethodName)) ∈ lw_all := lw_g (lw_at lw_m8 131 rfl) rfl
theorem q1897 : (Jvm.Cond.selects "CrateDeckModel" ({ cls := "CrateDeckModel", name := "write", desc := "(III)I" } : Jvm.MethodName) ({ cls := "CrateDeckModel", name := "write", desc := "(III)I" } : Jvm.MethodName)) ∈ lw_all := lw_g (lw_at lw_m8 132 rfl) rfl
theorem q1898 : (Jvm.Cond.code ({ cls := "CrateDeckModel", name := "write", desc := "(III)I" } : Jvm.MethodName) prog_17_method_44_code (8 : Nat) (Option.some Jvm.ClassFile.FieldType.int)) ∈ lw_all := lw_g (lw_at lw_m8 133 rfl) rfl
theorem q1899 : (Jvm.Cond.methodLink "CrateDeckModel" (300 : Nat) ({ cls := "CrateDeckModel", name := "hasParent", desc := "(II)Z" } : Jvm.MethodName)) ∈ lw_all := lw_g (lw_at lw_m8 134 rfl) rfl
theorem q1900 : (Jvm.Cond.privateMethod ({ cls := "CrateDeckModel", name := "hasParent", desc := "(II)Z" } : Jvm.MethodName)) ∈ lw_tbl := lw_at lw_m8 135 rfl
theorem q1901 : (Jvm.Cond.instanceMethod ({ cls := "CrateDeckModel", name := "hasParent", desc := "(II)Z" } : Jvm.MethodName)) ∈ lw_all := lw_g (lw_at lw_m8 136 rfl) rfl
theorem q1902 : (Jvm.Cond.code ({ cls := "CrateDeckModel", name := "hasParent", desc := "(II)Z" } : Jvm.MethodName) prog_17_method_39_code (3 : Nat) (Option.some Jvm.ClassFile.FieldType.boolean)) ∈ lw_all := lw_g (lw_at lw_m8 137 rfl) rfl
theorem q1903 : (Jvm.Cond.methodLink "CrateDeckModel" (303 : Nat) ({ cls := "CrateDeckModel", name := "saves", desc := "(I)I" } : Jvm.MethodName)) ∈ lw_all := lw_g (lw_at lw_m8 138 rfl) rfl
theorem q1904 : (Jvm.Cond.privateMethod ({ cls := "CrateDeckModel", name := "saves", desc := "(I)I" } : Jvm.MethodName)) ∈ lw_tbl := lw_at lw_m8 139 rfl
theorem q1905 : (Jvm.Cond.instanceMethod ({ cls := "CrateDeckModel", name := "saves", desc := "(I)I" } : Jvm.MethodName)) ∈ lw_all := lw_g (lw_at lw_m8 140 rfl) rfl
theorem q1906 : (Jvm.Cond.code ({ cls := "CrateDeckModel", name := "saves", desc := "(I)I" } : Jvm.MethodName) prog_17_method_42_code (3 : Nat) (Option.some Jvm.ClassFile.FieldType.int)) ∈ lw_all := lw_g (lw_at lw_m8 141 rfl) rfl
theorem q1907 : (Jvm.Cond.methodLink "CrateDeckModel" (296 : Nat) ({ cls := "CrateDeckModel", name := "puts", desc := "(IIII)V" } : Jvm.MethodName)) ∈ lw_all := lw_g (lw_at lw_m8 142 rfl) rfl
theorem q1908 : (Jvm.Cond.privateMethod ({ cls := "CrateDeckModel", name := "puts", desc := "(IIII)V" } : Jvm.MethodName)) ∈ lw_tbl := lw_at lw_m8 143 rfl
theorem q1909 : (Jvm.Cond.instanceMethod ({ cls := "CrateDeckModel", name := "puts", desc := "(IIII)V" } : Jvm.MethodName)) ∈ lw_all := lw_g (lw_at lw_m8 144 rfl) rfl
theorem q1910 : (Jvm.Cond.code ({ cls := "CrateDeckModel", name := "puts", desc := "(IIII)V" } : Jvm.MethodName) prog_17_method_40_code (6 : Nat) (Option.none : Option Jvm.ClassFile.FieldType)) ∈ lw_all := lw_g (lw_at lw_m8 145 rfl) rfl
theorem q1911 : (Jvm.Cond.methodLink "CrateDeckModel" (306 : Nat) ({ cls := "CrateDeckModel", name := "ends", desc := "(II)Z" } : Jvm.MethodName)) ∈ lw_all := lw_g (lw_at lw_m8 146 rfl) rfl
theorem q1912 : (Jvm.Cond.privateMethod ({ cls := "CrateDeckModel", name := "ends", desc := "(II)Z" } : Jvm.MethodName)) ∈ lw_tbl := lw_at lw_m8 147 rfl
theorem q1913 : (Jvm.Cond.instanceMethod ({ cls := "CrateDeckModel", name := "ends", desc := "(II)Z" } : Jvm.MethodName)) ∈ lw_all := lw_g (lw_at lw_m8 148 rfl) rfl
theorem q1914 : (Jvm.Cond.code ({ cls := "CrateDeckModel", name := "ends", desc := "(II)Z" } : Jvm.MethodName) prog_17_method_43_code (4 : Nat) (Option.some Jvm.ClassFile.FieldType.boolean)) ∈ lw_all := lw_g (lw_at lw_m8 149 rfl) rfl
theorem q1916 : (Jvm.Cond.instanceMethod ({ cls := "CrateDeckModel", name := "makeFolder", desc := "(II)V" } : Jvm.MethodName)) ∈ lw_all := lw_g (lw_at lw_m8 151 rfl) rfl
theorem q1917 : (Jvm.Cond.selects "CrateDeckModel" ({ cls := "CrateDeckModel", name := "makeFolder", desc := "(II)V" } : Jvm.MethodName) ({ cls := "CrateDeckModel", name := "makeFolder", desc := "(II)V" } : Jvm.MethodName)) ∈ lw_all := lw_g (lw_at lw_m8 152 rfl) rfl
theorem q1918 : (Jvm.Cond.code ({ cls := "CrateDeckModel", name := "makeFolder", desc := "(II)V" } : Jvm.MethodName) prog_17_method_45_code (6 : Nat) (Option.none : Option Jvm.ClassFile.FieldType)) ∈ lw_all := lw_g (lw_at lw_m8 153 rfl) rfl
theorem q1920 : (Jvm.Cond.instanceMethod ({ cls := "CrateDeckModel", name := "remove", desc := "(II)I" } : Jvm.MethodName)) ∈ lw_all := lw_g (lw_at lw_m8 155 rfl) rfl
theorem q1921 : (Jvm.Cond.selects "CrateDeckModel" ({ cls := "CrateDeckModel", name := "remove", desc := "(II)I" } : Jvm.MethodName) ({ cls := "CrateDeckModel", name := "remove", desc := "(II)I" } : Jvm.MethodName)) ∈ lw_all := lw_g (lw_at lw_m8 156 rfl) rfl
theorem q1922 : (Jvm.Cond.code ({ cls := "CrateDeckModel", name := "remove", desc := "(II)I" } : Jvm.MethodName) prog_17_method_46_code (7 : Nat) (Option.some Jvm.ClassFile.FieldType.int)) ∈ lw_all := lw_g (lw_at lw_m8 157 rfl) rfl
theorem q1923 : (Jvm.Cond.methodLink "CrateDeckModel" (309 : Nat) ({ cls := "CrateDeckModel", name := "hasVolume", desc := "(II)Z" } : Jvm.MethodName)) ∈ lw_all := lw_g (lw_at lw_m8 158 rfl) rfl
theorem q1924 : (Jvm.Cond.privateMethod ({ cls := "CrateDeckModel", name := "hasVolume", desc := "(II)Z" } : Jvm.MethodName)) ∈ lw_tbl := lw_at lw_m8 159 rfl
theorem q1925 : (Jvm.Cond.instanceMethod ({ cls := "CrateDeckModel", name := "hasVolume", desc := "(II)Z" } : Jvm.MethodName)) ∈ lw_all := lw_g (lw_at lw_m8 160 rfl) rfl
theorem q1926 : (Jvm.Cond.code ({ cls := "CrateDeckModel", name := "hasVolume", desc := "(II)Z" } : Jvm.MethodName) prog_17_method_36_code (5 : Nat) (Option.some Jvm.ClassFile.FieldType.boolean)) ∈ lw_all := lw_g (lw_at lw_m8 161 rfl) rfl
theorem q1927 : (Jvm.Cond.methodLink "CrateDeckModel" (312 : Nat) ({ cls := "CrateDeckModel", name := "takes", desc := "(II)V" } : Jvm.MethodName)) ∈ lw_all := lw_g (lw_at lw_m8 162 rfl) rfl
theorem q1928 : (Jvm.Cond.privateMethod ({ cls := "CrateDeckModel", name := "takes", desc := "(II)V" } : Jvm.MethodName)) ∈ lw_tbl := lw_at lw_m8 163 rfl
theorem q1929 : (Jvm.Cond.instanceMethod ({ cls := "CrateDeckModel", name := "takes", desc := "(II)V" } : Jvm.MethodName)) ∈ lw_all := lw_g (lw_at lw_m8 164 rfl) rfl
theorem q1930 : (Jvm.Cond.code ({ cls := "CrateDeckModel", name := "takes", desc := "(II)V" } : Jvm.MethodName) prog_17_method_41_code (6 : Nat) (Option.none : Option Jvm.ClassFile.FieldType)) ∈ lw_all := lw_g (lw_at lw_m8 165 rfl) rfl
theorem q1932 : (Jvm.Cond.instanceMethod ({ cls := "CrateDeckModel", name := "move", desc := "(III)V" } : Jvm.MethodName)) ∈ lw_all := lw_g (lw_at lw_m8 167 rfl) rfl
theorem q1933 : (Jvm.Cond.selects "CrateDeckModel" ({ cls := "CrateDeckModel", name := "move", desc := "(III)V" } : Jvm.MethodName) ({ cls := "CrateDeckModel", name := "move", desc := "(III)V" } : Jvm.MethodName)) ∈ lw_all := lw_g (lw_at lw_m8 168 rfl) rfl
theorem q1934 : (Jvm.Cond.code ({ cls := "CrateDeckModel", name := "move", desc := "(III)V" } : Jvm.MethodName) prog_17_method_49_code (8 : Nat) (Option.none : Option Jvm.ClassFile.FieldType)) ∈ lw_all := lw_g (lw_at lw_m8 169 rfl) rfl
theorem q1935 : (Jvm.Cond.methodLink "CrateDeckModel" (319 : Nat) ({ cls := "CrateDeckModel", name := "movesFolder", desc := "(III)Z" } : Jvm.MethodName)) ∈ lw_all := lw_g (lw_at lw_m8 170 rfl) rfl
theorem q1936 : (Jvm.Cond.privateMethod ({ cls := "CrateDeckModel", name := "movesFolder", desc := "(III)Z" } : Jvm.MethodName)) ∈ lw_tbl := lw_at lw_m8 171 rfl
theorem q1937 : (Jvm.Cond.instanceMethod ({ cls := "CrateDeckModel", name := "movesFolder", desc := "(III)Z" } : Jvm.MethodName)) ∈ lw_all := lw_g (lw_at lw_m8 172 rfl) rfl
theorem q1938 : (Jvm.Cond.code ({ cls := "CrateDeckModel", name := "movesFolder", desc := "(III)Z" } : Jvm.MethodName) prog_17_method_48_code (12 : Nat) (Option.some Jvm.ClassFile.FieldType.boolean)) ∈ lw_all := lw_g (lw_at lw_m8 173 rfl) rfl
theorem q1939 : (Jvm.Cond.methodLink "CrateDeckModel" (316 : Nat) ({ cls := "CrateDeckModel", name := "moved", desc := "(III)I" } : Jvm.MethodName)) ∈ lw_all := lw_g (lw_at lw_m8 174 rfl) rfl
theorem q1940 : (Jvm.Cond.static ({ cls := "CrateDeckModel", name := "moved", desc := "(III)I" } : Jvm.MethodName)) ∈ lw_all := lw_g (lw_at lw_m8 175 rfl) rfl
theorem q1941 : (Jvm.Cond.code ({ cls := "CrateDeckModel", name := "moved", desc := "(III)I" } : Jvm.MethodName) prog_17_method_47_code (4 : Nat) (Option.some Jvm.ClassFile.FieldType.int)) ∈ lw_all := lw_g (lw_at lw_m8 176 rfl) rfl
theorem q1943 : (Jvm.Cond.instanceMethod ({ cls := "CrateDeckModel", name := "mount", desc := "(III)V" } : Jvm.MethodName)) ∈ lw_all := lw_g (lw_at lw_m8 178 rfl) rfl
theorem q1944 : (Jvm.Cond.selects "CrateDeckModel" ({ cls := "CrateDeckModel", name := "mount", desc := "(III)V" } : Jvm.MethodName) ({ cls := "CrateDeckModel", name := "mount", desc := "(III)V" } : Jvm.MethodName)) ∈ lw_all := lw_g (lw_at lw_m8 179 rfl) rfl
theorem q1945 : (Jvm.Cond.code ({ cls := "CrateDeckModel", name := "mount", desc := "(III)V" } : Jvm.MethodName) prog_17_method_50_code (5 : Nat) (Option.none : Option Jvm.ClassFile.FieldType)) ∈ lw_all := lw_g (lw_at lw_m8 180 rfl) rfl
theorem q1947 : (Jvm.Cond.instanceMethod ({ cls := "CrateDeckModel", name := "commit", desc := "(I)I" } : Jvm.MethodName)) ∈ lw_all := lw_g (lw_at lw_m8 182 rfl) rfl
theorem q1948 : (Jvm.Cond.selects "CrateDeckModel" ({ cls := "CrateDeckModel", name := "commit", desc := "(I)I" } : Jvm.MethodName) ({ cls := "CrateDeckModel", name := "commit", desc := "(I)I" } : Jvm.MethodName)) ∈ lw_all := lw_g (lw_at lw_m8 183 rfl) rfl
theorem q1949 : (Jvm.Cond.code ({ cls := "CrateDeckModel", name := "commit", desc := "(I)I" } : Jvm.MethodName) prog_17_method_51_code (4 : Nat) (Option.some Jvm.ClassFile.FieldType.int)) ∈ lw_all := lw_g (lw_at lw_m8 184 rfl) rfl
theorem q1950 : (Jvm.Cond.methodLink "CrateDeckModel" (322 : Nat) ({ cls := "CrateDeckModel", name := "makes", desc := "(II)I" } : Jvm.MethodName)) ∈ lw_all := lw_g (lw_at lw_m8 185 rfl) rfl
theorem q1951 : (Jvm.Cond.privateMethod ({ cls := "CrateDeckModel", name := "makes", desc := "(II)I" } : Jvm.MethodName)) ∈ lw_tbl := lw_at lw_m8 186 rfl
theorem q1952 : (Jvm.Cond.instanceMethod ({ cls := "CrateDeckModel", name := "makes", desc := "(II)I" } : Jvm.MethodName)) ∈ lw_all := lw_g (lw_at lw_m8 187 rfl) rfl
theorem q1953 : (Jvm.Cond.code ({ cls := "CrateDeckModel", name := "makes", desc := "(II)I" } : Jvm.MethodName) prog_17_method_52_code (4 : Nat) (Option.some Jvm.ClassFile.FieldType.int)) ∈ lw_all := lw_g (lw_at lw_m8 188 rfl) rfl
theorem q1955 : (Jvm.Cond.instanceMethod ({ cls := "CrateDeckModel", name := "user", desc := "(I)I" } : Jvm.MethodName)) ∈ lw_all := lw_g (lw_at lw_m8 190 rfl) rfl
theorem q1956 : (Jvm.Cond.selects "CrateDeckModel" ({ cls := "CrateDeckModel", name := "user", desc := "(I)I" } : Jvm.MethodName) ({ cls := "CrateDeckModel", name := "user", desc := "(I)I" } : Jvm.MethodName)) ∈ lw_all := lw_g (lw_at lw_m8 191 rfl) rfl
theorem q1957 : (Jvm.Cond.code ({ cls := "CrateDeckModel", name := "user", desc := "(I)I" } : Jvm.MethodName) prog_17_method_54_code (2 : Nat) (Option.some Jvm.ClassFile.FieldType.int)) ∈ lw_all := lw_g (lw_at lw_m8 192 rfl) rfl
theorem q1958 : (Jvm.Cond.methodLink "CrateDeckModel" (325 : Nat) ({ cls := "CrateDeckModel", name := "isUser", desc := "(I)Z" } : Jvm.MethodName)) ∈ lw_all := lw_g (lw_at lw_m8 193 rfl) rfl
theorem q1959 : (Jvm.Cond.privateMethod ({ cls := "CrateDeckModel", name := "isUser", desc := "(I)Z" } : Jvm.MethodName)) ∈ lw_tbl := lw_at lw_m8 194 rfl
theorem q1960 : (Jvm.Cond.instanceMethod ({ cls := "CrateDeckModel", name := "isUser", desc := "(I)Z" } : Jvm.MethodName)) ∈ lw_all := lw_g (lw_at lw_m8 195 rfl) rfl
theorem q1961 : (Jvm.Cond.code ({ cls := "CrateDeckModel", name := "isUser", desc := "(I)Z" } : Jvm.MethodName) prog_17_method_53_code (2 : Nat) (Option.some Jvm.ClassFile.FieldType.boolean)) ∈ lw_all := lw_g (lw_at lw_m8 196 rfl) rfl
theorem q1963 : (Jvm.Cond.instanceMethod ({ cls := "CrateDeckModel", name := "range", desc := "(IIII)I" } : Jvm.MethodName)) ∈ lw_all := lw_g (lw_at lw_m8 198 rfl) rfl
theorem q1964 : (Jvm.Cond.selects "CrateDeckModel" ({ cls := "CrateDeckModel", name := "range", desc := "(IIII)I" } : Jvm.MethodName) ({ cls := "CrateDeckModel", name := "range", desc := "(IIII)I" } : Jvm.MethodName)) ∈ lw_all := lw_g (lw_at lw_m8 199 rfl) rfl
theorem q1965 : (Jvm.Cond.code ({ cls := "CrateDeckModel", name := "range", desc := "(IIII)I" } : Jvm.MethodName) prog_17_method_56_code (7 : Nat) (Option.some Jvm.ClassFile.FieldType.int)) ∈ lw_all := lw_g (lw_at lw_m8 200 rfl) rfl
theorem q1966 : (Jvm.Cond.methodLink "CrateDeckModel" (328 : Nat) ({ cls := "CrateDeckModel", name := "meet", desc := "(IIII)Z" } : Jvm.MethodName)) ∈ lw_all := lw_g (lw_at lw_m8 201 rfl) rfl
theorem q1967 : (Jvm.Cond.static ({ cls := "CrateDeckModel", name := "meet", desc := "(IIII)Z" } : Jvm.MethodName)) ∈ lw_all := lw_g (lw_at lw_m8 202 rfl) rfl
theorem q1968 : (Jvm.Cond.code ({ cls := "CrateDeckModel", name := "meet", desc := "(IIII)Z" } : Jvm.MethodName) prog_17_method_55_code (4 : Nat) (Option.some Jvm.ClassFile.FieldType.boolean)) ∈ lw_all := lw_g (lw_at lw_m8 203 rfl) rfl
theorem q1970 : (Jvm.Cond.instanceMethod ({ cls := "CrateDeckModel", name := "hostId", desc := "(II)I" } : Jvm.MethodName)) ∈ lw_all := lw_g (lw_at lw_m8 205 rfl) rfl
theorem q1971 : (Jvm.Cond.selects "CrateDeckModel" ({ cls := "CrateDeckModel", name := "hostId", desc := "(II)I" } : Jvm.MethodName) ({ cls := "CrateDeckModel", name := "hostId", desc := "(II)I" } : Jvm.MethodName)) ∈ lw_all := lw_g (lw_at lw_m8 206 rfl) rfl
theorem q1972 : (Jvm.Cond.code ({ cls := "CrateDeckModel", name := "hostId", desc := "(II)I" } : Jvm.MethodName) prog_17_method_57_code (7 : Nat) (Option.some Jvm.ClassFile.FieldType.int)) ∈ lw_all := lw_g (lw_at lw_m8 207 rfl) rfl
theorem q1974 : (Jvm.Cond.instanceMethod ({ cls := "CrateDeckModel", name := "canAct", desc := "(II)Z" } : Jvm.MethodName)) ∈ lw_all := lw_g (lw_at lw_m8 209 rfl) rfl
theorem q1975 : (Jvm.Cond.selects "CrateDeckModel" ({ cls := "CrateDeckModel", name := "canAct", desc := "(II)Z" } : Jvm.MethodName) ({ cls := "CrateDeckModel", name := "canAct", desc := "(II)Z" } : Jvm.MethodName)) ∈ lw_all := lw_g (lw_at lw_m8 210 rfl) rfl
theorem q1976 : (Jvm.Cond.code ({ cls := "CrateDeckModel", name := "canAct", desc := "(II)Z" } : Jvm.MethodName) prog_17_method_58_code (4 : Nat) (Option.some Jvm.ClassFile.FieldType.boolean)) ∈ lw_all := lw_g (lw_at lw_m8 211 rfl) rfl
theorem q1978 : (Jvm.Cond.instanceMethod ({ cls := "CrateDeckModel", name := "group", desc := "(IIII)I" } : Jvm.MethodName)) ∈ lw_all := lw_g (lw_at lw_m8 213 rfl) rfl
theorem q1979 : (Jvm.Cond.selects "CrateDeckModel" ({ cls := "CrateDeckModel", name := "group", desc := "(IIII)I" } : Jvm.MethodName) ({ cls := "CrateDeckModel", name := "group", desc := "(IIII)I" } : Jvm.MethodName)) ∈ lw_all := lw_g (lw_at lw_m8 214 rfl) rfl
theorem q1980 : (Jvm.Cond.code ({ cls := "CrateDeckModel", name := "group", desc := "(IIII)I" } : Jvm.MethodName) prog_17_method_60_code (5 : Nat) (Option.some Jvm.ClassFile.FieldType.int)) ∈ lw_all := lw_g (lw_at lw_m8 215 rfl) rfl
theorem q1981 : (Jvm.Cond.methodLink "CrateDeckModel" (332 : Nat) ({ cls := "CrateDeckModel", name := "isGroup", desc := "(I)Z" } : Jvm.MethodName)) ∈ lw_all := lw_g (lw_at lw_m8 216 rfl) rfl
theorem q1982 : (Jvm.Cond.privateMethod ({ cls := "CrateDeckModel", name := "isGroup", desc := "(I)Z" } : Jvm.MethodName)) ∈ lw_tbl := lw_at lw_m8 217 rfl
theorem q1983 : (Jvm.Cond.instanceMethod ({ cls := "CrateDeckModel", name := "isGroup", desc := "(I)Z" } : Jvm.MethodName)) ∈ lw_all := lw_g (lw_at lw_m8 218 rfl) rfl
theorem q1984 : (Jvm.Cond.code ({ cls := "CrateDeckModel", name := "isGroup", desc := "(I)Z" } : Jvm.MethodName) prog_17_method_59_code (2 : Nat) (Option.some Jvm.ClassFile.FieldType.boolean)) ∈ lw_all := lw_g (lw_at lw_m8 219 rfl) rfl
theorem q1986 : (Jvm.Cond.instanceMethod ({ cls := "CrateDeckModel", name := "run", desc := "(II)I" } : Jvm.MethodName)) ∈ lw_all := lw_g (lw_at lw_m8 221 rfl) rfl
theorem q1987 : (Jvm.Cond.selects "CrateDeckModel" ({ cls := "CrateDeckModel", name := "run", desc := "(II)I" } : Jvm.MethodName) ({ cls := "CrateDeckModel", name := "run", desc := "(II)I" } : Jvm.MethodName)) ∈ lw_all := lw_g (lw_at lw_m8 222 rfl) rfl
theorem q1988 : (Jvm.Cond.code ({ cls := "CrateDeckModel", name := "run", desc := "(II)I" } : Jvm.MethodName) prog_17_method_63_code (5 : Nat) (Option.some Jvm.ClassFile.FieldType.int)) ∈ lw_all := lw_g (lw_at lw_m8 223 rfl) rfl
theorem q1989 : (Jvm.Cond.methodLink "CrateDeckModel" (338 : Nat) ({ cls := "CrateDeckModel", name := "counts", desc := "(IZ)I" } : Jvm.MethodName)) ∈ lw_all := lw_g (lw_at lw_m8 224 rfl) rfl
theorem q1990 : (Jvm.Cond.privateMethod ({ cls := "CrateDeckModel", name := "counts", desc := "(IZ)I" } : Jvm.MethodName)) ∈ lw_tbl := lw_at lw_m8 225 rfl
theorem q1991 : (Jvm.Cond.instanceMethod ({ cls := "CrateDeckModel", name := "counts", desc := "(IZ)I" } : Jvm.MethodName)) ∈ lw_all := lw_g (lw_at lw_m8 226 rfl) rfl
theorem q1992 : (Jvm.Cond.code ({ cls := "CrateDeckModel", name := "counts", desc := "(IZ)I" } : Jvm.MethodName) prog_17_method_62_code (5 : Nat) (Option.some Jvm.ClassFile.FieldType.int)) ∈ lw_all := lw_g (lw_at lw_m8 227 rfl) rfl
theorem q1993 : (Jvm.Cond.methodLink "CrateDeckModel" (335 : Nat) ({ cls := "CrateDeckModel", name := "isBelow", desc := "(II)Z" } : Jvm.MethodName)) ∈ lw_all := lw_g (lw_at lw_m8 228 rfl) rfl
theorem q1994 : (Jvm.Cond.privateMethod ({ cls := "CrateDeckModel", name := "isBelow", desc := "(II)Z" } : Jvm.MethodName)) ∈ lw_tbl := lw_at lw_m8 229 rfl
theorem q1995 : (Jvm.Cond.instanceMethod ({ cls := "CrateDeckModel", name := "isBelow", desc := "(II)Z" } : Jvm.MethodName)) ∈ lw_all := lw_g (lw_at lw_m8 230 rfl) rfl
theorem q1996 : (Jvm.Cond.code ({ cls := "CrateDeckModel", name := "isBelow", desc := "(II)Z" } : Jvm.MethodName) prog_17_method_61_code (4 : Nat) (Option.some Jvm.ClassFile.FieldType.boolean)) ∈ lw_all := lw_g (lw_at lw_m8 231 rfl) rfl
theorem q1998 : (Jvm.Cond.instanceMethod ({ cls := "CrateDeckModel", name := "give", desc := "(II)I" } : Jvm.MethodName)) ∈ lw_all := lw_g (lw_at lw_m8 233 rfl) rfl
theorem q1999 : (Jvm.Cond.selects "CrateDeckModel" ({ cls := "CrateDeckModel", name := "give", desc := "(II)I" } : Jvm.MethodName) ({ cls := "CrateDeckModel", name := "give", desc := "(II)I" } : Jvm.MethodName)) ∈ lw_all := lw_g (lw_at lw_m8 234 rfl) rfl
theorem q2000 : (Jvm.Cond.code ({ cls := "CrateDeckModel", name := "give", desc := "(II)I" } : Jvm.MethodName) prog_17_method_65_code (10 : Nat) (Option.some Jvm.ClassFile.FieldType.int)) ∈ lw_all := lw_g (lw_at lw_m8 235 rfl) rfl
theorem q2001 : (Jvm.Cond.methodLink "CrateDeckModel" (345 : Nat) ({ cls := "CrateDeckModel", name := "spotOf", desc := "(I)I" } : Jvm.MethodName)) ∈ lw_all := lw_g (lw_at lw_m8 236 rfl) rfl
theorem q2002 : (Jvm.Cond.privateMethod ({ cls := "CrateDeckModel", name := "spotOf", desc := "(I)I" } : Jvm.MethodName)) ∈ lw_tbl := lw_at lw_m8 237 rfl
theorem q2003 : (Jvm.Cond.instanceMethod ({ cls := "CrateDeckModel", name := "spotOf", desc := "(I)I" } : Jvm.MethodName)) ∈ lw_all := lw_g (lw_at lw_m8 238 rfl) rfl
theorem q2004 : (Jvm.Cond.code ({ cls := "CrateDeckModel", name := "spotOf", desc := "(I)I" } : Jvm.MethodName) prog_17_method_64_code (4 : Nat) (Option.some Jvm.ClassFile.FieldType.int)) ∈ lw_all := lw_g (lw_at lw_m8 239 rfl) rfl
theorem q2006 : (Jvm.Cond.instanceMethod ({ cls := "CrateDeckModel", name := "process", desc := "(II)I" } : Jvm.MethodName)) ∈ lw_all := lw_g (lw_at lw_m9 1 rfl) rfl
theorem q2007 : (Jvm.Cond.selects "CrateDeckModel" ({ cls := "CrateDeckModel", name := "process", desc := "(II)I" } : Jvm.MethodName) ({ cls := "CrateDeckModel", name := "process", desc := "(II)I" } : Jvm.MethodName)) ∈ lw_all := lw_g (lw_at lw_m9 2 rfl) rfl
theorem q2008 : (Jvm.Cond.code ({ cls := "CrateDeckModel", name := "process", desc := "(II)I" } : Jvm.MethodName) prog_17_method_69_code (4 : Nat) (Option.some Jvm.ClassFile.FieldType.int)) ∈ lw_all := lw_g (lw_at lw_m9 3 rfl) rfl
theorem q2009 : (Jvm.Cond.methodLink "CrateDeckModel" (354 : Nat) ({ cls := "CrateDeckModel", name := "time", desc := "(I)I" } : Jvm.MethodName)) ∈ lw_all := lw_g (lw_at lw_m9 4 rfl) rfl
theorem q2010 : (Jvm.Cond.privateMethod ({ cls := "CrateDeckModel", name := "time", desc := "(I)I" } : Jvm.MethodName)) ∈ lw_tbl := lw_at lw_m9 5 rfl
theorem q2011 : (Jvm.Cond.instanceMethod ({ cls := "CrateDeckModel", name := "time", desc := "(I)I" } : Jvm.MethodName)) ∈ lw_all := lw_g (lw_at lw_m9 6 rfl) rfl
theorem q2012 : (Jvm.Cond.code ({ cls := "CrateDeckModel", name := "time", desc := "(I)I" } : Jvm.MethodName) prog_17_method_68_code (5 : Nat) (Option.some Jvm.ClassFile.FieldType.int)) ∈ lw_all := lw_g (lw_at lw_m9 7 rfl) rfl
theorem q2013 : (Jvm.Cond.methodLink "CrateDeckModel" (351 : Nat) ({ cls := "CrateDeckModel", name := "sharesIn", desc := "(I)I" } : Jvm.MethodName)) ∈ lw_all := lw_g (lw_at lw_m9 8 rfl) rfl
theorem q2014 : (Jvm.Cond.privateMethod ({ cls := "CrateDeckModel", name := "sharesIn", desc := "(I)I" } : Jvm.MethodName)) ∈ lw_tbl := lw_at lw_m9 9 rfl
theorem q2015 : (Jvm.Cond.instanceMethod ({ cls := "CrateDeckModel", name := "sharesIn", desc := "(I)I" } : Jvm.MethodName)) ∈ lw_all := lw_g (lw_at lw_m9 10 rfl) rfl
theorem q2016 : (Jvm.Cond.code ({ cls := "CrateDeckModel", name := "sharesIn", desc := "(I)I" } : Jvm.MethodName) prog_17_method_67_code (4 : Nat) (Option.some Jvm.ClassFile.FieldType.int)) ∈ lw_all := lw_g (lw_at lw_m9 11 rfl) rfl
theorem q2017 : (Jvm.Cond.methodLink "CrateDeckModel" (348 : Nat) ({ cls := "CrateDeckModel", name := "ownOf", desc := "(I)I" } : Jvm.MethodName)) ∈ lw_all := lw_g (lw_at lw_m9 12 rfl) rfl
theorem q2018 : (Jvm.Cond.privateMethod ({ cls := "CrateDeckModel", name := "ownOf", desc := "(I)I" } : Jvm.MethodName)) ∈ lw_tbl := lw_at lw_m9 13 rfl
theorem q2019 : (Jvm.Cond.instanceMethod ({ cls := "CrateDeckModel", name := "ownOf", desc := "(I)I" } : Jvm.MethodName)) ∈ lw_all := lw_g (lw_at lw_m9 14 rfl) rfl
theorem q2020 : (Jvm.Cond.code ({ cls := "CrateDeckModel", name := "ownOf", desc := "(I)I" } : Jvm.MethodName) prog_17_method_66_code (4 : Nat) (Option.some Jvm.ClassFile.FieldType.int)) ∈ lw_all := lw_g (lw_at lw_m9 15 rfl) rfl
theorem q2022 : (Jvm.Cond.instanceMethod ({ cls := "CrateDeckModel", name := "groupHas", desc := "(II)I" } : Jvm.MethodName)) ∈ lw_all := lw_g (lw_at lw_m9 17 rfl) rfl
theorem q2023 : (Jvm.Cond.selects "CrateDeckModel" ({ cls := "CrateDeckModel", name := "groupHas", desc := "(II)I" } : Jvm.MethodName) ({ cls := "CrateDeckModel", name := "groupHas", desc := "(II)I" } : Jvm.MethodName)) ∈ lw_all := lw_g (lw_at lw_m9 18 rfl) rfl
theorem q2024 : (Jvm.Cond.code ({ cls := "CrateDeckModel", name := "groupHas", desc := "(II)I" } : Jvm.MethodName) prog_17_method_70_code (3 : Nat) (Option.some Jvm.ClassFile.FieldType.int)) ∈ lw_all := lw_g (lw_at lw_m9 19 rfl) rfl
theorem q2026 : (Jvm.Cond.instanceMethod ({ cls := "CrateDeckModel", name := "filter", desc := "(III)I" } : Jvm.MethodName)) ∈ lw_all := lw_g (lw_at lw_m9 21 rfl) rfl
theorem q2027 : (Jvm.Cond.selects "CrateDeckModel" ({ cls := "CrateDeckModel", name := "filter", desc := "(III)I" } : Jvm.MethodName) ({ cls := "CrateDeckModel", name := "filter", desc := "(III)I" } : Jvm.MethodName)) ∈ lw_all := lw_g (lw_at lw_m9 22 rfl) rfl
theorem q2028 : (Jvm.Cond.code ({ cls := "CrateDeckModel", name := "filter", desc := "(III)I" } : Jvm.MethodName) prog_17_method_71_code (5 : Nat) (Option.some Jvm.ClassFile.FieldType.int)) ∈ lw_all := lw_g (lw_at lw_m9 23 rfl) rfl
theorem q2029 : (Jvm.Cond.constant "CrateDeckModel" (357 : Nat) (65535 : Int32)) ∈ lw_all := lw_g (lw_at lw_m9 24 rfl) rfl
theorem q2031 : (Jvm.Cond.instanceMethod ({ cls := "CrateDeckModel", name := "call", desc := "(II)I" } : Jvm.MethodName)) ∈ lw_all := lw_g (lw_at lw_m9 26 rfl) rfl
theorem q2032 : (Jvm.Cond.selects "CrateDeckModel" ({ cls := "CrateDeckModel", name := "call", desc := "(II)I" } : Jvm.MethodName) ({ cls := "CrateDeckModel", name := "call", desc := "(II)I" } : Jvm.MethodName)) ∈ lw_all := lw_g (lw_at lw_m9 27 rfl) rfl
theorem q2033 : (Jvm.Cond.code ({ cls := "CrateDeckModel", name := "call", desc := "(II)I" } : Jvm.MethodName) prog_17_method_72_code (7 : Nat) (Option.some Jvm.ClassFile.FieldType.int)) ∈ lw_all := lw_g (lw_at lw_m9 28 rfl) rfl
theorem q2035 : (Jvm.Cond.instanceMethod ({ cls := "CrateDeckModel", name := "connect", desc := "(II)I" } : Jvm.MethodName)) ∈ lw_all := lw_g (lw_at lw_m9 30 rfl) rfl
theorem q2036 : (Jvm.Cond.selects "CrateDeckModel" ({ cls := "CrateDeckModel", name := "connect", desc := "(II)I" } : Jvm.MethodName) ({ cls := "CrateDeckModel", name := "connect", desc := "(II)I" } : Jvm.MethodName)) ∈ lw_all := lw_g (lw_at lw_m9 31 rfl) rfl
theorem q2037 : (Jvm.Cond.code ({ cls := "CrateDeckModel", name := "connect", desc := "(II)I" } : Jvm.MethodName) prog_17_method_73_code (6 : Nat) (Option.some Jvm.ClassFile.FieldType.int)) ∈ lw_all := lw_g (lw_at lw_m9 32 rfl) rfl
theorem q2039 : (Jvm.Cond.instanceMethod ({ cls := "CrateDeckModel", name := "disconnect", desc := "(II)I" } : Jvm.MethodName)) ∈ lw_all := lw_g (lw_at lw_m9 34 rfl) rfl
theorem q2040 : (Jvm.Cond.selects "CrateDeckModel" ({ cls := "CrateDeckModel", name := "disconnect", desc := "(II)I" } : Jvm.MethodName) ({ cls := "CrateDeckModel", name := "disconnect", desc := "(II)I" } : Jvm.MethodName)) ∈ lw_all := lw_g (lw_at lw_m9 35 rfl) rfl
theorem q2041 : (Jvm.Cond.code ({ cls := "CrateDeckModel", name := "disconnect", desc := "(II)I" } : Jvm.MethodName) prog_17_method_74_code (5 : Nat) (Option.some Jvm.ClassFile.FieldType.int)) ∈ lw_all := lw_g (lw_at lw_m9 36 rfl) rfl
theorem q2043 : (Jvm.Cond.instanceMethod ({ cls := "CrateDeckModel", name := "find", desc := "(II)I" } : Jvm.MethodName)) ∈ lw_all := lw_g (lw_at lw_m9 38 rfl) rfl
theorem q2044 : (Jvm.Cond.selects "CrateDeckModel" ({ cls := "CrateDeckModel", name := "find", desc := "(II)I" } : Jvm.MethodName) ({ cls := "CrateDeckModel", name := "find", desc := "(II)I" } : Jvm.MethodName)) ∈ lw_all := lw_g (lw_at lw_m9 39 rfl) rfl
theorem q2045 : (Jvm.Cond.code ({ cls := "CrateDeckModel", name := "find", desc := "(II)I" } : Jvm.MethodName) prog_17_method_75_code (8 : Nat) (Option.some Jvm.ClassFile.FieldType.int)) ∈ lw_all := lw_g (lw_at lw_m9 40 rfl) rfl
theorem q2047 : (Jvm.Cond.instanceMethod ({ cls := "CrateDeckModel", name := "forward", desc := "(III)V" } : Jvm.MethodName)) ∈ lw_all := lw_g (lw_at lw_m9 42 rfl) rfl
theorem q2048 : (Jvm.Cond.selects "CrateDeckModel" ({ cls := "CrateDeckModel", name := "forward", desc := "(III)V" } : Jvm.MethodName) ({ cls := "CrateDeckModel", name := "forward", desc := "(III)V" } : Jvm.MethodName)) ∈ lw_all := lw_g (lw_at lw_m9 43 rfl) rfl
theorem q2049 : (Jvm.Cond.code ({ cls := "CrateDeckModel", name := "forward", desc := "(III)V" } : Jvm.MethodName) prog_17_method_77_code (5 : Nat) (Option.none : Option Jvm.ClassFile.FieldType)) ∈ lw_all := lw_g (lw_at lw_m9 44 rfl) rfl
theorem q2050 : (Jvm.Cond.methodLink "CrateDeckModel" (358 : Nat) ({ cls := "CrateDeckModel", name := "isConnected", desc := "(I)Z" } : Jvm.MethodName)) ∈ lw_all := lw_g (lw_at lw_m9 45 rfl) rfl
theorem q2051 : (Jvm.Cond.privateMethod ({ cls := "CrateDeckModel", name := "isConnected", desc := "(I)Z" } : Jvm.MethodName)) ∈ lw_tbl := lw_at lw_m9 46 rfl
theorem q2052 : (Jvm.Cond.instanceMethod ({ cls := "CrateDeckModel", name := "isConnected", desc := "(I)Z" } : Jvm.MethodName)) ∈ lw_all := lw_g (lw_at lw_m9 47 rfl) rfl
theorem q2053 : (Jvm.Cond.code ({ cls := "CrateDeckModel", name := "isConnected", desc := "(I)Z" } : Jvm.MethodName) prog_17_method_76_code (2 : Nat) (Option.some Jvm.ClassFile.FieldType.boolean)) ∈ lw_all := lw_g (lw_at lw_m9 48 rfl) rfl
theorem q2055 : (Jvm.Cond.instanceMethod ({ cls := "CrateDeckModel", name := "leads", desc := "(I)I" } : Jvm.MethodName)) ∈ lw_all := lw_g (lw_at lw_m9 50 rfl) rfl
theorem q2056 : (Jvm.Cond.selects "CrateDeckModel" ({ cls := "CrateDeckModel", name := "leads", desc := "(I)I" } : Jvm.MethodName) ({ cls := "CrateDeckModel", name := "leads", desc := "(I)I" } : Jvm.MethodName)) ∈ lw_all := lw_g (lw_at lw_m9 51 rfl) rfl
theorem q2057 : (Jvm.Cond.code ({ cls := "CrateDeckModel", name := "leads", desc := "(I)I" } : Jvm.MethodName) prog_17_method_78_code (2 : Nat) (Option.some Jvm.ClassFile.FieldType.int)) ∈ lw_all := lw_g (lw_at lw_m9 52 rfl) rfl
theorem q2059 : (Jvm.Cond.instanceMethod ({ cls := "CrateDeckModel", name := "build", desc := "(IIII)I" } : Jvm.MethodName)) ∈ lw_all := lw_g (lw_at lw_m9 54 rfl) rfl
theorem q2060 : (Jvm.Cond.selects "CrateDeckModel" ({ cls := "CrateDeckModel", name := "build", desc := "(IIII)I" } : Jvm.MethodName) ({ cls := "CrateDeckModel", name := "build", desc := "(IIII)I" } : Jvm.MethodName)) ∈ lw_all := lw_g (lw_at lw_m9 55 rfl) rfl
theorem q2061 : (Jvm.Cond.code ({ cls := "CrateDeckModel", name := "build", desc := "(IIII)I" } : Jvm.MethodName) prog_17_method_79_code (8 : Nat) (Option.some Jvm.ClassFile.FieldType.int)) ∈ lw_all := lw_g (lw_at lw_m9 56 rfl) rfl
theorem q2063 : (Jvm.Cond.instanceMethod ({ cls := "CrateDeckModel", name := "hits", desc := "()I" } : Jvm.MethodName)) ∈ lw_all := lw_g (lw_at lw_m9 58 rfl) rfl
theorem q2064 : (Jvm.Cond.selects "CrateDeckModel" ({ cls := "CrateDeckModel", name := "hits", desc := "()I" } : Jvm.MethodName) ({ cls := "CrateDeckModel", name := "hits", desc := "()I" } : Jvm.MethodName)) ∈ lw_all := lw_g (lw_at lw_m9 59 rfl) rfl
theorem q2065 : (Jvm.Cond.code ({ cls := "CrateDeckModel", name := "hits", desc := "()I" } : Jvm.MethodName) prog_17_method_80_code (1 : Nat) (Option.some Jvm.ClassFile.FieldType.int)) ∈ lw_all := lw_g (lw_at lw_m9 60 rfl) rfl
theorem q2067 : (Jvm.Cond.instanceMethod ({ cls := "CrateDeckModel", name := "push", desc := "(I)I" } : Jvm.MethodName)) ∈ lw_all := lw_g (lw_at lw_m9 62 rfl) rfl
theorem q2068 : (Jvm.Cond.selects "CrateDeckModel" ({ cls := "CrateDeckModel", name := "push", desc := "(I)I" } : Jvm.MethodName) ({ cls := "CrateDeckModel", name := "push", desc := "(I)I" } : Jvm.MethodName)) ∈ lw_all := lw_g (lw_at lw_m9 63 rfl) rfl
theorem q2069 : (Jvm.Cond.code ({ cls := "CrateDeckModel", name := "push", desc := "(I)I" } : Jvm.MethodName) prog_17_method_82_code (3 : Nat) (Option.some Jvm.ClassFile.FieldType.int)) ∈ lw_all := lw_g (lw_at lw_m9 64 rfl) rfl
theorem q2070 : (Jvm.Cond.methodLink "CrateDeckModel" (370 : Nat) ({ cls := "CrateDeckModel", name := "bits", desc := "(I)I" } : Jvm.MethodName)) ∈ lw_all := lw_g (lw_at lw_m9 65 rfl) rfl
theorem q2071 : (Jvm.Cond.static ({ cls := "CrateDeckModel", name := "bits", desc := "(I)I" } : Jvm.MethodName)) ∈ lw_all := lw_g (lw_at lw_m9 66 rfl) rfl
theorem q2072 : (Jvm.Cond.code ({ cls := "CrateDeckModel", name := "bits", desc := "(I)I" } : Jvm.MethodName) prog_17_method_81_code (3 : Nat) (Option.some Jvm.ClassFile.FieldType.int)) ∈ lw_all := lw_g (lw_at lw_m9 67 rfl) rfl
theorem q2074 : (Jvm.Cond.instanceMethod ({ cls := "CrateDeckModel", name := "pull", desc := "(II)I" } : Jvm.MethodName)) ∈ lw_all := lw_g (lw_at lw_m9 69 rfl) rfl
theorem q2075 : (Jvm.Cond.selects "CrateDeckModel" ({ cls := "CrateDeckModel", name := "pull", desc := "(II)I" } : Jvm.MethodName) ({ cls := "CrateDeckModel", name := "pull", desc := "(II)I" } : Jvm.MethodName)) ∈ lw_all := lw_g (lw_at lw_m9 70 rfl) rfl
theorem q2076 : (Jvm.Cond.code ({ cls := "CrateDeckModel", name := "pull", desc := "(II)I" } : Jvm.MethodName) prog_17_method_83_code (6 : Nat) (Option.some Jvm.ClassFile.FieldType.int)) ∈ lw_all := lw_g (lw_at lw_m9 71 rfl) rfl
theorem q2078 : (Jvm.Cond.instanceMethod ({ cls := "CrateDeckModel", name := "forget", desc := "(I)Z" } : Jvm.MethodName)) ∈ lw_all := lw_g (lw_at lw_m9 73 rfl) rfl
theorem q2079 : (Jvm.Cond.selects "CrateDeckModel" ({ cls := "CrateDeckModel", name := "forget", desc := "(I)Z" } : Jvm.MethodName) ({ cls := "CrateDeckModel", name := "forget", desc := "(I)Z" } : Jvm.MethodName)) ∈ lw_all := lw_g (lw_at lw_m9 74 rfl) rfl
theorem q2080 : (Jvm.Cond.code ({ cls := "CrateDeckModel", name := "forget", desc := "(I)Z" } : Jvm.MethodName) prog_17_method_84_code (3 : Nat) (Option.some Jvm.ClassFile.FieldType.boolean)) ∈ lw_all := lw_g (lw_at lw_m9 75 rfl) rfl
theorem q2082 : (Jvm.Cond.instanceMethod ({ cls := "CrateDeckModel", name := "sweep", desc := "()I" } : Jvm.MethodName)) ∈ lw_all := lw_g (lw_at lw_m9 77 rfl) rfl
theorem q2083 : (Jvm.Cond.selects "CrateDeckModel" ({ cls := "CrateDeckModel", name := "sweep", desc := "()I" } : Jvm.MethodName) ({ cls := "CrateDeckModel", name := "sweep", desc := "()I" } : Jvm.MethodName)) ∈ lw_all := lw_g (lw_at lw_m9 78 rfl) rfl
theorem q2084 : (Jvm.Cond.code ({ cls := "CrateDeckModel", name := "sweep", desc := "()I" } : Jvm.MethodName) prog_17_method_85_code (3 : Nat) (Option.some Jvm.ClassFile.FieldType.int)) ∈ lw_all := lw_g (lw_at lw_m9 79 rfl) rfl
theorem q2086 : (Jvm.Cond.instanceMethod ({ cls := "CrateDeckModel", name := "dropLayers", desc := "()I" } : Jvm.MethodName)) ∈ lw_all := lw_g (lw_at lw_m9 81 rfl) rfl
theorem q2087 : (Jvm.Cond.selects "CrateDeckModel" ({ cls := "CrateDeckModel", name := "dropLayers", desc := "()I" } : Jvm.MethodName) ({ cls := "CrateDeckModel", name := "dropLayers", desc := "()I" } : Jvm.MethodName)) ∈ lw_all := lw_g (lw_at lw_m9 82 rfl) rfl
theorem q2088 : (Jvm.Cond.code ({ cls := "CrateDeckModel", name := "dropLayers", desc := "()I" } : Jvm.MethodName) prog_17_method_86_code (3 : Nat) (Option.some Jvm.ClassFile.FieldType.int)) ∈ lw_all := lw_g (lw_at lw_m9 83 rfl) rfl
theorem q2090 : (Jvm.Cond.instanceMethod ({ cls := "CrateDeckModel", name := "layers", desc := "(Z)I" } : Jvm.MethodName)) ∈ lw_all := lw_g (lw_at lw_m9 85 rfl) rfl
theorem q2091 : (Jvm.Cond.selects "CrateDeckModel" ({ cls := "CrateDeckModel", name := "layers", desc := "(Z)I" } : Jvm.MethodName) ({ cls := "CrateDeckModel", name := "layers", desc := "(Z)I" } : Jvm.MethodName)) ∈ lw_all := lw_g (lw_at lw_m9 86 rfl) rfl
theorem q2092 : (Jvm.Cond.code ({ cls := "CrateDeckModel", name := "layers", desc := "(Z)I" } : Jvm.MethodName) prog_17_method_87_code (2 : Nat) (Option.some Jvm.ClassFile.FieldType.int)) ∈ lw_all := lw_g (lw_at lw_m9 87 rfl) rfl
theorem q2094 : (Jvm.Cond.instanceMethod ({ cls := "CrateDeckModel", name := "service", desc := "(I)I" } : Jvm.MethodName)) ∈ lw_all := lw_g (lw_at lw_m9 89 rfl) rfl
theorem q2095 : (Jvm.Cond.selects "CrateDeckModel" ({ cls := "CrateDeckModel", name := "service", desc := "(I)I" } : Jvm.MethodName) ({ cls := "CrateDeckModel", name := "service", desc := "(I)I" } : Jvm.MethodName)) ∈ lw_all := lw_g (lw_at lw_m9 90 rfl) rfl
theorem q2096 : (Jvm.Cond.code ({ cls := "CrateDeckModel", name := "service", desc := "(I)I" } : Jvm.MethodName) prog_17_method_88_code (2 : Nat) (Option.some Jvm.ClassFile.FieldType.int)) ∈ lw_all := lw_g (lw_at lw_m9 91 rfl) rfl
theorem q2098 : (Jvm.Cond.instanceMethod ({ cls := "CrateDeckModel", name := "wish", desc := "(III)V" } : Jvm.MethodName)) ∈ lw_all := lw_g (lw_at lw_m9 93 rfl) rfl
theorem q2099 : (Jvm.Cond.selects "CrateDeckModel" ({ cls := "CrateDeckModel", name := "wish", desc := "(III)V" } : Jvm.MethodName) ({ cls := "CrateDeckModel", name := "wish", desc := "(III)V" } : Jvm.MethodName)) ∈ lw_all := lw_g (lw_at lw_m9 94 rfl) rfl
theorem q2100 : (Jvm.Cond.code ({ cls := "CrateDeckModel", name := "wish", desc := "(III)V" } : Jvm.MethodName) prog_17_method_89_code (4 : Nat) (Option.none : Option Jvm.ClassFile.FieldType)) ∈ lw_all := lw_g (lw_at lw_m9 95 rfl) rfl
theorem q2102 : (Jvm.Cond.instanceMethod ({ cls := "CrateDeckModel", name := "serviceHas", desc := "(II)I" } : Jvm.MethodName)) ∈ lw_all := lw_g (lw_at lw_m9 97 rfl) rfl
theorem q2103 : (Jvm.Cond.selects "CrateDeckModel" ({ cls := "CrateDeckModel", name := "serviceHas", desc := "(II)I" } : Jvm.MethodName) ({ cls := "CrateDeckModel", name := "serviceHas", desc := "(II)I" } : Jvm.MethodName)) ∈ lw_all := lw_g (lw_at lw_m9 98 rfl) rfl
theorem q2104 : (Jvm.Cond.code ({ cls := "CrateDeckModel", name := "serviceHas", desc := "(II)I" } : Jvm.MethodName) prog_17_method_91_code (3 : Nat) (Option.some Jvm.ClassFile.FieldType.int)) ∈ lw_all := lw_g (lw_at lw_m9 99 rfl) rfl
theorem q2105 : (Jvm.Cond.methodLink "CrateDeckModel" (379 : Nat) ({ cls := "CrateDeckModel", name := "has", desc := "(IZ)I" } : Jvm.MethodName)) ∈ lw_all := lw_g (lw_at lw_m9 100 rfl) rfl
theorem q2106 : (Jvm.Cond.privateMethod ({ cls := "CrateDeckModel", name := "has", desc := "(IZ)I" } : Jvm.MethodName)) ∈ lw_tbl := lw_at lw_m9 101 rfl
theorem q2107 : (Jvm.Cond.instanceMethod ({ cls := "CrateDeckModel", name := "has", desc := "(IZ)I" } : Jvm.MethodName)) ∈ lw_all := lw_g (lw_at lw_m9 102 rfl) rfl
theorem q2108 : (Jvm.Cond.code ({ cls := "CrateDeckModel", name := "has", desc := "(IZ)I" } : Jvm.MethodName) prog_17_method_90_code (5 : Nat) (Option.some Jvm.ClassFile.FieldType.int)) ∈ lw_all := lw_g (lw_at lw_m9 103 rfl) rfl
theorem q2110 : (Jvm.Cond.instanceMethod ({ cls := "CrateDeckModel", name := "setHealth", desc := "(IZ)V" } : Jvm.MethodName)) ∈ lw_all := lw_g (lw_at lw_m9 105 rfl) rfl
theorem q2111 : (Jvm.Cond.selects "CrateDeckModel" ({ cls := "CrateDeckModel", name := "setHealth", desc := "(IZ)V" } : Jvm.MethodName) ({ cls := "CrateDeckModel", name := "setHealth", desc := "(IZ)V" } : Jvm.MethodName)) ∈ lw_all := lw_g (lw_at lw_m9 106 rfl) rfl
theorem q2112 : (Jvm.Cond.code ({ cls := "CrateDeckModel", name := "setHealth", desc := "(IZ)V" } : Jvm.MethodName) prog_17_method_92_code (4 : Nat) (Option.none : Option Jvm.ClassFile.FieldType)) ∈ lw_all := lw_g (lw_at lw_m9 107 rfl) rfl
theorem q2114 : (Jvm.Cond.instanceMethod ({ cls := "CrateDeckModel", name := "pass", desc := "(I)I" } : Jvm.MethodName)) ∈ lw_all := lw_g (lw_at lw_m9 109 rfl) rfl
theorem q2115 : (Jvm.Cond.selects "CrateDeckModel" ({ cls := "CrateDeckModel", name := "pass", desc := "(I)I" } : Jvm.MethodName) ({ cls := "CrateDeckModel", name := "pass", desc := "(I)I" } : Jvm.MethodName)) ∈ lw_all := lw_g (lw_at lw_m9 110 rfl) rfl
theorem q2116 : (Jvm.Cond.code ({ cls := "CrateDeckModel", name := "pass", desc := "(I)I" } : Jvm.MethodName) prog_17_method_95_code (4 : Nat) (Option.some Jvm.ClassFile.FieldType.int)) ∈ lw_all := lw_g (lw_at lw_m9 111 rfl) rfl
theorem q2117 : (Jvm.Cond.methodLink "CrateDeckModel" (389 : Nat) ({ cls := "CrateDeckModel", name := "ticks", desc := "(I)V" } : Jvm.MethodName)) ∈ lw_all := lw_g (lw_at lw_m9 112 rfl) rfl
theorem q2118 : (Jvm.Cond.privateMethod ({ cls := "CrateDeckModel", name := "ticks", desc := "(I)V" } : Jvm.MethodName)) ∈ lw_tbl := lw_at lw_m9 113 rfl
theorem q2119 : (Jvm.Cond.instanceMethod ({ cls := "CrateDeckModel", name := "ticks", desc := "(I)V" } : Jvm.MethodName)) ∈ lw_all := lw_g (lw_at lw_m9 114 rfl) rfl
theorem q2120 : (Jvm.Cond.code ({ cls := "CrateDeckModel", name := "ticks", desc := "(I)V" } : Jvm.MethodName) prog_17_method_94_code (5 : Nat) (Option.none : Option Jvm.ClassFile.FieldType)) ∈ lw_all := lw_g (lw_at lw_m9 115 rfl) rfl
theorem q2121 : (Jvm.Cond.methodLink "CrateDeckModel" (382 : Nat) ({ cls := "CrateDeckModel", name := "pick", desc := "(IIZ)I" } : Jvm.MethodName)) ∈ lw_all := lw_g (lw_at lw_m9 116 rfl) rfl
theorem q2122 : (Jvm.Cond.privateMethod ({ cls := "CrateDeckModel", name := "pick", desc := "(IIZ)I" } : Jvm.MethodName)) ∈ lw_tbl := lw_at lw_m9 117 rfl
theorem q2123 : (Jvm.Cond.instanceMethod ({ cls := "CrateDeckModel", name := "pick", desc := "(IIZ)I" } : Jvm.MethodName)) ∈ lw_all := lw_g (lw_at lw_m9 118 rfl) rfl
theorem q2124 : (Jvm.Cond.code ({ cls := "CrateDeckModel", name := "pick", desc := "(IIZ)I" } : Jvm.MethodName) prog_17_method_93_code (7 : Nat) (Option.some Jvm.ClassFile.FieldType.int)) ∈ lw_all := lw_g (lw_at lw_m9 119 rfl) rfl
theorem q2137 : (Jvm.Cond.castable "CrateDeckModel" "java/lang/Object") ∈ lw_tbl := lw_at lw_m9 132 rfl
theorem in_X7 : ∀ w ∈ wsX70, w ∈ lw_all := lw_in wsX70 [1607, 1609, 1611, 1613, 1615, 1617, 1619, 1621, 1623, 1625, 1627, 1629, 1631, 1633, 1635, 1637, 1639, 1641, 1643, 1645, 1647, 1649, 1651, 1653, 1655, 1657, 1659, 1661, 1663, 1665, 1667, 1669, 1671, 1673, 1675, 1677, 1679, 1681, 1683, 1685, 1687, 1689, 1691, 1693, 1695, 1697, 1699, 1701, 1703, 1705, 1707, 1709, 1711, 1713, 1715, 1717, 1719, 1721, 1723, 1725, 1727, 1729, 1731, 1733, 1735, 1737, 1739, 1741, 1743, 1745, 1747, 1749] (by decide +kernel) (by decide +kernel)

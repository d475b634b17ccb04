/-! CrateDeck -/
set_option maxRecDepth 100000
def RX1 : String := "CrateDeck"
def TX1 : u_T := fun k => match k with
  | 0 => ("CrateDeck", "now", "I", false)
  | 1 => ("CrateDeck", "told", "LCrateDeck$Layer;", true)
  | 2 => ("CrateDeck", "layers", "Ljava/util/List;", true)
  | 3 => ("CrateDeck", "images", "Ljava/util/List;", true)
  | 4 => ("CrateDeck", "containers", "Ljava/util/List;", true)
  | 5 => ("CrateDeck", "nextContainer", "I", false)
  | 6 => ("CrateDeck", "volumes", "[[I", true)
  | 7 => ("CrateDeck", "users", "Ljava/util/List;", true)
  | 8 => ("CrateDeck", "groups", "Ljava/util/List;", true)
  | 9 => ("CrateDeck", "processes", "Ljava/util/List;", true)
  | 10 => ("CrateDeck", "nextProcess", "I", false)
  | 11 => ("CrateDeck", "forwards", "[LCrateDeck$Forward;", true)
  | 12 => ("CrateDeck", "steps", "Ljava/util/List;", true)
  | 13 => ("CrateDeck", "hits", "I", false)
  | 14 => ("CrateDeck", "hostLayers", "I", false)
  | 15 => ("CrateDeck", "registryLayers", "I", false)
  | 16 => ("CrateDeck", "registryImages", "I", false)
  | 17 => ("CrateDeck", "services", "Ljava/util/List;", true)
  | 18 => ("CrateDeck", "looked", "LCrateDeck$Tree;", true)
  | 19 => ("CrateDeck", "whole", "[I", true)
  | _ => ("CrateDeck", "kept", "LCrateDeck$Layer;", true)
def tyX1 : Nat → FieldType := fun k => match k with
  | 0 => .int
  | 1 => .object "CrateDeck$Layer"
  | 2 => .object "java/util/List"
  | 3 => .object "java/util/List"
  | 4 => .object "java/util/List"
  | 5 => .int
  | 6 => .array (.array .int)
  | 7 => .object "java/util/List"
  | 8 => .object "java/util/List"
  | 9 => .object "java/util/List"
  | 10 => .int
  | 11 => .array (.object "CrateDeck$Forward")
  | 12 => .object "java/util/List"
  | 13 => .int
  | 14 => .int
  | 15 => .int
  | 16 => .int
  | 17 => .object "java/util/List"
  | 18 => .object "CrateDeck$Tree"
  | 19 => .array .int
  | _ => .object "CrateDeck$Layer"
abbrev wsX10 : List Cond := u_ws RX1 TX1 21
set_option maxRecDepth 100000 in
theorem nmX1 : ∀ a, a < 21 → ∀ b, b < 21 → a ≠ b → (TX1 a).2.1 ≠ (TX1 b).2.1 := by decide +kernel
set_option maxRecDepth 100000 in
theorem tyX1_ok : ∀ k, k < 21 → parseFieldDescriptor (TX1 k).2.2.1 = some (tyX1 k) := by decide +kernel
abbrev cX1_init : ByteArray := prog_1_method_4_code
def yX1_init : MethodName := ⟨RX1, "<init>", "()V"⟩
def dkwX1_init_10 : List UInt8 := [42, 180, 0, 35, 27, 50, 28, 2, 79, 132, 2, 1, 167, 255, 238, 132, 1, 1, 167, 255, 225, 177]
abbrev dktX1_init_10 : List UInt8 := dkwX1_init_10 ++ []
def dkwX1_init_9 : List UInt8 := [183, 0, 89, 185, 0, 76, 2, 0, 87, 3, 60, 27, 7, 162, 0, 32, 3, 61, 28, 16, 10, 162, 0, 18]
abbrev dktX1_init_9 : List UInt8 := dkwX1_init_9 ++ dktX1_init_10
def dkwX1_init_8 : List UInt8 := [183, 0, 84, 185, 0, 76, 2, 0, 87, 42, 180, 0, 41, 187, 0, 87, 89, 2, 16, 50, 17, 39, 15, 4]
abbrev dktX1_init_8 : List UInt8 := dkwX1_init_8 ++ dktX1_init_9
def dkwX1_init_7 : List UInt8 := [187, 0, 73, 89, 183, 0, 75, 185, 0, 76, 2, 0, 87, 42, 180, 0, 38, 187, 0, 82, 89, 2]
abbrev dktX1_init_7 : List UInt8 := dkwX1_init_7 ++ dktX1_init_8
def dkwX1_init_6 : List UInt8 := [17, 3, 232, 188, 10, 181, 0, 66, 42, 187, 0, 13, 89, 183, 0, 15, 181, 0, 70, 42, 180, 0, 27]
abbrev dktX1_init_6 : List UInt8 := dkwX1_init_6 ++ dktX1_init_7
def dkwX1_init_5 : List UInt8 := [187, 0, 20, 89, 183, 0, 22, 181, 0, 56, 42, 187, 0, 59, 89, 183, 0, 61, 181, 0, 62, 42]
abbrev dktX1_init_5 : List UInt8 := dkwX1_init_5 ++ dktX1_init_6
def dkwX1_init_4 : List UInt8 := [181, 0, 44, 42, 16, 100, 189, 0, 47, 181, 0, 49, 42, 187, 0, 20, 89, 183, 0, 22, 181, 0, 53, 42]
abbrev dktX1_init_4 : List UInt8 := dkwX1_init_4 ++ dktX1_init_5
def dkwX1_init_3 : List UInt8 := [181, 0, 38, 42, 187, 0, 20, 89, 183, 0, 22, 181, 0, 41, 42, 187, 0, 20, 89, 183, 0, 22]
abbrev dktX1_init_3 : List UInt8 := dkwX1_init_3 ++ dktX1_init_4
def dkwX1_init_2 : List UInt8 := [181, 0, 30, 42, 7, 16, 10, 197, 0, 33, 2, 181, 0, 35, 42, 187, 0, 20, 89, 183, 0, 22]
abbrev dktX1_init_2 : List UInt8 := dkwX1_init_2 ++ dktX1_init_3
def dkwX1_init_1 : List UInt8 := [181, 0, 23, 42, 187, 0, 20, 89, 183, 0, 22, 181, 0, 27, 42, 187, 0, 20, 89, 183, 0, 22]
abbrev dktX1_init_1 : List UInt8 := dkwX1_init_1 ++ dktX1_init_2
def dkwX1_init_0 : List UInt8 := [42, 183, 0, 7, 42, 187, 0, 13, 89, 183, 0, 15, 181, 0, 16, 42, 187, 0, 20, 89, 183, 0, 22]
abbrev dktX1_init_0 : List UInt8 := dkwX1_init_0 ++ dktX1_init_1
theorem dksX1_init_0 : cX1_init.data.toList.drop 0 = dktX1_init_0 := by decide +kernel
theorem dksX1_init_1 : cX1_init.data.toList.drop 23 = dktX1_init_1 := dk_seg dksX1_init_0 23 rfl rfl
theorem dksX1_init_2 : cX1_init.data.toList.drop 45 = dktX1_init_2 := dk_seg dksX1_init_1 22 rfl rfl
theorem dksX1_init_3 : cX1_init.data.toList.drop 67 = dktX1_init_3 := dk_seg dksX1_init_2 22 rfl rfl
theorem dksX1_init_4 : cX1_init.data.toList.drop 89 = dktX1_init_4 := dk_seg dksX1_init_3 22 rfl rfl
theorem dksX1_init_5 : cX1_init.data.toList.drop 113 = dktX1_init_5 := dk_seg dksX1_init_4 24 rfl rfl
theorem dksX1_init_6 : cX1_init.data.toList.drop 135 = dktX1_init_6 := dk_seg dksX1_init_5 22 rfl rfl
theorem dksX1_init_7 : cX1_init.data.toList.drop 158 = dktX1_init_7 := dk_seg dksX1_init_6 23 rfl rfl
theorem dksX1_init_8 : cX1_init.data.toList.drop 180 = dktX1_init_8 := dk_seg dksX1_init_7 22 rfl rfl
theorem dksX1_init_9 : cX1_init.data.toList.drop 204 = dktX1_init_9 := dk_seg dksX1_init_8 24 rfl rfl
theorem dksX1_init_10 : cX1_init.data.toList.drop 228 = dktX1_init_10 := dk_seg dksX1_init_9 24 rfl rfl
theorem dX1_init_0 : decode cX1_init 0 = .ok (.aload_n 0, 1) := dk_42 (dk_at dksX1_init_0 0 rfl rfl)
theorem dX1_init_1 : decode cX1_init 1 = .ok (.invokespecial 7, 3) := dk_183 0 7 (dk_at dksX1_init_0 1 rfl rfl)
theorem dX1_init_4 : decode cX1_init 4 = .ok (.aload_n 0, 1) := dk_42 (dk_at dksX1_init_0 4 rfl rfl)
theorem dX1_init_5 : decode cX1_init 5 = .ok (.new 13, 3) := dk_187 0 13 (dk_at dksX1_init_0 5 rfl rfl)
theorem dX1_init_8 : decode cX1_init 8 = .ok (.dup, 1) := dk_89 (dk_at dksX1_init_0 8 rfl rfl)
theorem dX1_init_9 : decode cX1_init 9 = .ok (.invokespecial 15, 3) := dk_183 0 15 (dk_at dksX1_init_0 9 rfl rfl)
theorem dX1_init_12 : decode cX1_init 12 = .ok (.putfield 16, 3) := dk_181 0 16 (dk_at dksX1_init_0 12 rfl rfl)
theorem dX1_init_15 : decode cX1_init 15 = .ok (.aload_n 0, 1) := dk_42 (dk_at dksX1_init_0 15 rfl rfl)
theorem dX1_init_16 : decode cX1_init 16 = .ok (.new 20, 3) := dk_187 0 20 (dk_at dksX1_init_0 16 rfl rfl)
theorem dX1_init_19 : decode cX1_init 19 = .ok (.dup, 1) := dk_89 (dk_at dksX1_init_0 19 rfl rfl)
theorem dX1_init_20 : decode cX1_init 20 = .ok (.invokespecial 22, 3) := dk_183 0 22 (dk_at dksX1_init_0 20 rfl rfl)
theorem dX1_init_23 : decode cX1_init 23 = .ok (.putfield 23, 3) := dk_181 0 23 (dk_at dksX1_init_1 0 rfl rfl)
theorem dX1_init_26 : decode cX1_init 26 = .ok (.aload_n 0, 1) := dk_42 (dk_at dksX1_init_1 3 rfl rfl)
theorem dX1_init_27 : decode cX1_init 27 = .ok (.new 20, 3) := dk_187 0 20 (dk_at dksX1_init_1 4 rfl rfl)
theorem dX1_init_30 : decode cX1_init 30 = .ok (.dup, 1) := dk_89 (dk_at dksX1_init_1 7 rfl rfl)
theorem dX1_init_31 : decode cX1_init 31 = .ok (.invokespecial 22, 3) := dk_183 0 22 (dk_at dksX1_init_1 8 rfl rfl)
theorem dX1_init_34 : decode cX1_init 34 = .ok (.putfield 27, 3) := dk_181 0 27 (dk_at dksX1_init_1 11 rfl rfl)
theorem dX1_init_37 : decode cX1_init 37 = .ok (.aload_n 0, 1) := dk_42 (dk_at dksX1_init_1 14 rfl rfl)
theorem dX1_init_38 : decode cX1_init 38 = .ok (.new 20, 3) := dk_187 0 20 (dk_at dksX1_init_1 15 rfl rfl)
theorem dX1_init_41 : decode cX1_init 41 = .ok (.dup, 1) := dk_89 (dk_at dksX1_init_1 18 rfl rfl)
theorem dX1_init_42 : decode cX1_init 42 = .ok (.invokespecial 22, 3) := dk_183 0 22 (dk_at dksX1_init_1 19 rfl rfl)
theorem dX1_init_45 : decode cX1_init 45 = .ok (.putfield 30, 3) := dk_181 0 30 (dk_at dksX1_init_2 0 rfl rfl)
theorem dX1_init_48 : decode cX1_init 48 = .ok (.aload_n 0, 1) := dk_42 (dk_at dksX1_init_2 3 rfl rfl)
theorem dX1_init_49 : decode cX1_init 49 = .ok (.iconst 4, 1) := dk_7 (dk_at dksX1_init_2 4 rfl rfl)
theorem dX1_init_50 : decode cX1_init 50 = .ok (.bipush 10, 2) := dk_16 10 (dk_at dksX1_init_2 5 rfl rfl)
theorem dX1_init_52 : decode cX1_init 52 = .ok (.multianewarray 33 2, 4) := by decide +kernel
theorem dX1_init_56 : decode cX1_init 56 = .ok (.putfield 35, 3) := dk_181 0 35 (dk_at dksX1_init_2 11 rfl rfl)
theorem dX1_init_59 : decode cX1_init 59 = .ok (.aload_n 0, 1) := dk_42 (dk_at dksX1_init_2 14 rfl rfl)
theorem dX1_init_60 : decode cX1_init 60 = .ok (.new 20, 3) := dk_187 0 20 (dk_at dksX1_init_2 15 rfl rfl)
theorem dX1_init_63 : decode cX1_init 63 = .ok (.dup, 1) := dk_89 (dk_at dksX1_init_2 18 rfl rfl)
theorem dX1_init_64 : decode cX1_init 64 = .ok (.invokespecial 22, 3) := dk_183 0 22 (dk_at dksX1_init_2 19 rfl rfl)
theorem dX1_init_67 : decode cX1_init 67 = .ok (.putfield 38, 3) := dk_181 0 38 (dk_at dksX1_init_3 0 rfl rfl)
theorem dX1_init_70 : decode cX1_init 70 = .ok (.aload_n 0, 1) := dk_42 (dk_at dksX1_init_3 3 rfl rfl)
theorem dX1_init_71 : decode cX1_init 71 = .ok (.new 20, 3) := dk_187 0 20 (dk_at dksX1_init_3 4 rfl rfl)
theorem dX1_init_74 : decode cX1_init 74 = .ok (.dup, 1) := dk_89 (dk_at dksX1_init_3 7 rfl rfl)
theorem dX1_init_75 : decode cX1_init 75 = .ok (.invokespecial 22, 3) := dk_183 0 22 (dk_at dksX1_init_3 8 rfl rfl)
theorem dX1_init_78 : decode cX1_init 78 = .ok (.putfield 41, 3) := dk_181 0 41 (dk_at dksX1_init_3 11 rfl rfl)
theorem dX1_init_81 : decode cX1_init 81 = .ok (.aload_n 0, 1) := dk_42 (dk_at dksX1_init_3 14 rfl rfl)
theorem dX1_init_82 : decode cX1_init 82 = .ok (.new 20, 3) := dk_187 0 20 (dk_at dksX1_init_3 15 rfl rfl)
theorem dX1_init_85 : decode cX1_init 85 = .ok (.dup, 1) := dk_89 (dk_at dksX1_init_3 18 rfl rfl)
theorem dX1_init_86 : decode cX1_init 86 = .ok (.invokespecial 22, 3) := dk_183 0 22 (dk_at dksX1_init_3 19 rfl rfl)
theorem dX1_init_89 : decode cX1_init 89 = .ok (.putfield 44, 3) := dk_181 0 44 (dk_at dksX1_init_4 0 rfl rfl)
theorem dX1_init_92 : decode cX1_init 92 = .ok (.aload_n 0, 1) := dk_42 (dk_at dksX1_init_4 3 rfl rfl)
theorem dX1_init_93 : decode cX1_init 93 = .ok (.bipush 100, 2) := dk_16 100 (dk_at dksX1_init_4 4 rfl rfl)
theorem dX1_init_95 : decode cX1_init 95 = .ok (.anewarray 47, 3) := dk_189 0 47 (dk_at dksX1_init_4 6 rfl rfl)
theorem dX1_init_98 : decode cX1_init 98 = .ok (.putfield 49, 3) := dk_181 0 49 (dk_at dksX1_init_4 9 rfl rfl)
theorem dX1_init_101 : decode cX1_init 101 = .ok (.aload_n 0, 1) := dk_42 (dk_at dksX1_init_4 12 rfl rfl)
theorem dX1_init_102 : decode cX1_init 102 = .ok (.new 20, 3) := dk_187 0 20 (dk_at dksX1_init_4 13 rfl rfl)
theorem dX1_init_105 : decode cX1_init 105 = .ok (.dup, 1) := dk_89 (dk_at dksX1_init_4 16 rfl rfl)
theorem dX1_init_106 : decode cX1_init 106 = .ok (.invokespecial 22, 3) := dk_183 0 22 (dk_at dksX1_init_4 17 rfl rfl)
theorem dX1_init_109 : decode cX1_init 109 = .ok (.putfield 53, 3) := dk_181 0 53 (dk_at dksX1_init_4 20 rfl rfl)
theorem dX1_init_112 : decode cX1_init 112 = .ok (.aload_n 0, 1) := dk_42 (dk_at dksX1_init_4 23 rfl rfl)
theorem dX1_init_113 : decode cX1_init 113 = .ok (.new 20, 3) := dk_187 0 20 (dk_at dksX1_init_5 0 rfl rfl)
theorem dX1_init_116 : decode cX1_init 116 = .ok (.dup, 1) := dk_89 (dk_at dksX1_init_5 3 rfl rfl)
theorem dX1_init_117 : decode cX1_init 117 = .ok (.invokespecial 22, 3) := dk_183 0 22 (dk_at dksX1_init_5 4 rfl rfl)
theorem dX1_init_120 : decode cX1_init 120 = .ok (.putfield 56, 3) := dk_181 0 56 (dk_at dksX1_init_5 7 rfl rfl)
theorem dX1_init_123 : decode cX1_init 123 = .ok (.aload_n 0, 1) := dk_42 (dk_at dksX1_init_5 10 rfl rfl)
theorem dX1_init_124 : decode cX1_init 124 = .ok (.new 59, 3) := dk_187 0 59 (dk_at dksX1_init_5 11 rfl rfl)
theorem dX1_init_127 : decode cX1_init 127 = .ok (.dup, 1) := dk_89 (dk_at dksX1_init_5 14 rfl rfl)
theorem dX1_init_128 : decode cX1_init 128 = .ok (.invokespecial 61, 3) := dk_183 0 61 (dk_at dksX1_init_5 15 rfl rfl)
theorem dX1_init_131 : decode cX1_init 131 = .ok (.putfield 62, 3) := dk_181 0 62 (dk_at dksX1_init_5 18 rfl rfl)
theorem dX1_init_134 : decode cX1_init 134 = .ok (.aload_n 0, 1) := dk_42 (dk_at dksX1_init_5 21 rfl rfl)
theorem dX1_init_135 : decode cX1_init 135 = .ok (.sipush 1000, 3) := dk_17 3 232 (dk_at dksX1_init_6 0 rfl rfl)
theorem dX1_init_138 : decode cX1_init 138 = .ok (.newarray .int, 2) := dk_188_10 (dk_at dksX1_init_6 3 rfl rfl)
theorem dX1_init_140 : decode cX1_init 140 = .ok (.putfield 66, 3) := dk_181 0 66 (dk_at dksX1_init_6 5 rfl rfl)
theorem dX1_init_143 : decode cX1_init 143 = .ok (.aload_n 0, 1) := dk_42 (dk_at dksX1_init_6 8 rfl rfl)
theorem dX1_init_144 : decode cX1_init 144 = .ok (.new 13, 3) := dk_187 0 13 (dk_at dksX1_init_6 9 rfl rfl)
theorem dX1_init_147 : decode cX1_init 147 = .ok (.dup, 1) := dk_89 (dk_at dksX1_init_6 12 rfl rfl)
theorem dX1_init_148 : decode cX1_init 148 = .ok (.invokespecial 15, 3) := dk_183 0 15 (dk_at dksX1_init_6 13 rfl rfl)
theorem dX1_init_151 : decode cX1_init 151 = .ok (.putfield 70, 3) := dk_181 0 70 (dk_at dksX1_init_6 16 rfl rfl)
theorem dX1_init_154 : decode cX1_init 154 = .ok (.aload_n 0, 1) := dk_42 (dk_at dksX1_init_6 19 rfl rfl)
theorem dX1_init_155 : decode cX1_init 155 = .ok (.getfield 27, 3) := dk_180 0 27 (dk_at dksX1_init_6 20 rfl rfl)
theorem dX1_init_158 : decode cX1_init 158 = .ok (.new 73, 3) := dk_187 0 73 (dk_at dksX1_init_7 0 rfl rfl)
theorem dX1_init_161 : decode cX1_init 161 = .ok (.dup, 1) := dk_89 (dk_at dksX1_init_7 3 rfl rfl)
theorem dX1_init_162 : decode cX1_init 162 = .ok (.invokespecial 75, 3) := dk_183 0 75 (dk_at dksX1_init_7 4 rfl rfl)
theorem dX1_init_165 : decode cX1_init 165 = .ok (.invokeinterface 76 2, 5) := by decide +kernel
theorem dX1_init_170 : decode cX1_init 170 = .ok (.pop, 1) := dk_87 (dk_at dksX1_init_7 12 rfl rfl)
theorem dX1_init_171 : decode cX1_init 171 = .ok (.aload_n 0, 1) := dk_42 (dk_at dksX1_init_7 13 rfl rfl)
theorem dX1_init_172 : decode cX1_init 172 = .ok (.getfield 38, 3) := dk_180 0 38 (dk_at dksX1_init_7 14 rfl rfl)
theorem dX1_init_175 : decode cX1_init 175 = .ok (.new 82, 3) := dk_187 0 82 (dk_at dksX1_init_7 17 rfl rfl)
theorem dX1_init_178 : decode cX1_init 178 = .ok (.dup, 1) := dk_89 (dk_at dksX1_init_7 20 rfl rfl)
theorem dX1_init_179 : decode cX1_init 179 = .ok (.iconst (-1), 1) := dk_2 (dk_at dksX1_init_7 21 rfl rfl)
theorem dX1_init_180 : decode cX1_init 180 = .ok (.invokespecial 84, 3) := dk_183 0 84 (dk_at dksX1_init_8 0 rfl rfl)
theorem dX1_init_183 : decode cX1_init 183 = .ok (.invokeinterface 76 2, 5) := by decide +kernel
theorem dX1_init_188 : decode cX1_init 188 = .ok (.pop, 1) := dk_87 (dk_at dksX1_init_8 8 rfl rfl)
theorem dX1_init_189 : decode cX1_init 189 = .ok (.aload_n 0, 1) := dk_42 (dk_at dksX1_init_8 9 rfl rfl)
theorem dX1_init_190 : decode cX1_init 190 = .ok (.getfield 41, 3) := dk_180 0 41 (dk_at dksX1_init_8 10 rfl rfl)
theorem dX1_init_193 : decode cX1_init 193 = .ok (.new 87, 3) := dk_187 0 87 (dk_at dksX1_init_8 13 rfl rfl)
theorem dX1_init_196 : decode cX1_init 196 = .ok (.dup, 1) := dk_89 (dk_at dksX1_init_8 16 rfl rfl)
theorem dX1_init_197 : decode cX1_init 197 = .ok (.iconst (-1), 1) := dk_2 (dk_at dksX1_init_8 17 rfl rfl)
theorem dX1_init_198 : decode cX1_init 198 = .ok (.bipush 50, 2) := dk_16 50 (dk_at dksX1_init_8 18 rfl rfl)
theorem dX1_init_200 : decode cX1_init 200 = .ok (.sipush 9999, 3) := dk_17 39 15 (dk_at dksX1_init_8 20 rfl rfl)
theorem dX1_init_203 : decode cX1_init 203 = .ok (.iconst 1, 1) := dk_4 (dk_at dksX1_init_8 23 rfl rfl)
theorem dX1_init_204 : decode cX1_init 204 = .ok (.invokespecial 89, 3) := dk_183 0 89 (dk_at dksX1_init_9 0 rfl rfl)
theorem dX1_init_207 : decode cX1_init 207 = .ok (.invokeinterface 76 2, 5) := by decide +kernel
theorem dX1_init_212 : decode cX1_init 212 = .ok (.pop, 1) := dk_87 (dk_at dksX1_init_9 8 rfl rfl)
theorem dX1_init_213 : decode cX1_init 213 = .ok (.iconst 0, 1) := dk_3 (dk_at dksX1_init_9 9 rfl rfl)
theorem dX1_init_214 : decode cX1_init 214 = .ok (.istore_n 1, 1) := dk_60 (dk_at dksX1_init_9 10 rfl rfl)
theorem dX1_init_215 : decode cX1_init 215 = .ok (.iload_n 1, 1) := dk_27 (dk_at dksX1_init_9 11 rfl rfl)
theorem dX1_init_216 : decode cX1_init 216 = .ok (.iconst 4, 1) := dk_7 (dk_at dksX1_init_9 12 rfl rfl)
theorem dX1_init_217 : decode cX1_init 217 = .ok (.if_icmp .ge 32, 3) := dk_162 0 32 (dk_at dksX1_init_9 13 rfl rfl)
theorem dX1_init_220 : decode cX1_init 220 = .ok (.iconst 0, 1) := dk_3 (dk_at dksX1_init_9 16 rfl rfl)
theorem dX1_init_221 : decode cX1_init 221 = .ok (.istore_n 2, 1) := dk_61 (dk_at dksX1_init_9 17 rfl rfl)
theorem dX1_init_222 : decode cX1_init 222 = .ok (.iload_n 2, 1) := dk_28 (dk_at dksX1_init_9 18 rfl rfl)
theorem dX1_init_223 : decode cX1_init 223 = .ok (.bipush 10, 2) := dk_16 10 (dk_at dksX1_init_9 19 rfl rfl)
theorem dX1_init_225 : decode cX1_init 225 = .ok (.if_icmp .ge 18, 3) := dk_162 0 18 (dk_at dksX1_init_9 21 rfl rfl)
theorem dX1_init_228 : decode cX1_init 228 = .ok (.aload_n 0, 1) := dk_42 (dk_at dksX1_init_10 0 rfl rfl)
theorem dX1_init_229 : decode cX1_init 229 = .ok (.getfield 35, 3) := dk_180 0 35 (dk_at dksX1_init_10 1 rfl rfl)
theorem dX1_init_232 : decode cX1_init 232 = .ok (.iload_n 1, 1) := dk_27 (dk_at dksX1_init_10 4 rfl rfl)
theorem dX1_init_233 : decode cX1_init 233 = .ok (.aaload, 1) := dk_50 (dk_at dksX1_init_10 5 rfl rfl)
theorem dX1_init_234 : decode cX1_init 234 = .ok (.iload_n 2, 1) := dk_28 (dk_at dksX1_init_10 6 rfl rfl)
theorem dX1_init_235 : decode cX1_init 235 = .ok (.iconst (-1), 1) := dk_2 (dk_at dksX1_init_10 7 rfl rfl)
theorem dX1_init_236 : decode cX1_init 236 = .ok (.iastore, 1) := dk_79 (dk_at dksX1_init_10 8 rfl rfl)
theorem dX1_init_237 : decode cX1_init 237 = .ok (.iinc 2 1, 3) := dk_132 2 1 (dk_at dksX1_init_10 9 rfl rfl)
theorem dX1_init_240 : decode cX1_init 240 = .ok (.goto (-18), 3) := dk_167 255 238 (dk_at dksX1_init_10 12 rfl rfl)
theorem dX1_init_243 : decode cX1_init 243 = .ok (.iinc 1 1, 3) := dk_132 1 1 (dk_at dksX1_init_10 15 rfl rfl)
theorem dX1_init_246 : decode cX1_init 246 = .ok (.goto (-31), 3) := dk_167 255 225 (dk_at dksX1_init_10 18 rfl rfl)
theorem dX1_init_249 : decode cX1_init 249 = .ok (.return_, 1) := dk_177 (dk_at dksX1_init_10 21 rfl rfl)
abbrev cX1_hits : ByteArray := prog_1_method_77_code
def yX1_hits : MethodName := ⟨RX1, "hits", "()I"⟩
theorem dX1_hits_0 : decode cX1_hits 0 = .ok (.aload_n 0, 1) := by decide +kernel
theorem dX1_hits_1 : decode cX1_hits 1 = .ok (.getfield 461, 3) := by decide +kernel
theorem dX1_hits_4 : decode cX1_hits 4 = .ok (.ireturn, 1) := by decide +kernel
abbrev cX1_sweep : ByteArray := prog_1_method_81_code
def yX1_sweep : MethodName := ⟨RX1, "sweep", "()I"⟩
def dkwX1_sweep_2 : List UInt8 := [180, 1, 214, 27, 2, 130, 126, 184, 1, 217, 61, 42, 89, 180, 1, 214, 27, 126, 181, 1, 214, 28, 172]
abbrev dktX1_sweep_2 : List UInt8 := dkwX1_sweep_2 ++ []
def dkwX1_sweep_1 : List UInt8 := [4, 126, 4, 160, 0, 11, 42, 28, 182, 1, 4, 167, 0, 4, 3, 128, 60, 132, 2, 1, 167, 255, 216, 42]
abbrev dktX1_sweep_1 : List UInt8 := dkwX1_sweep_1 ++ dktX1_sweep_2
def dkwX1_sweep_0 : List UInt8 := [3, 60, 3, 61, 28, 42, 180, 0, 27, 185, 0, 105, 1, 0, 162, 0, 33, 27, 42, 180, 1, 220, 28, 122]
abbrev dktX1_sweep_0 : List UInt8 := dkwX1_sweep_0 ++ dktX1_sweep_1
theorem dksX1_sweep_0 : cX1_sweep.data.toList.drop 0 = dktX1_sweep_0 := by decide +kernel
theorem dksX1_sweep_1 : cX1_sweep.data.toList.drop 24 = dktX1_sweep_1 := dk_seg dksX1_sweep_0 24 rfl rfl
theorem dksX1_sweep_2 : cX1_sweep.data.toList.drop 48 = dktX1_sweep_2 := dk_seg dksX1_sweep_1 24 rfl rfl
theorem dX1_sweep_0 : decode cX1_sweep 0 = .ok (.iconst 0, 1) := dk_3 (dk_at dksX1_sweep_0 0 rfl rfl)
theorem dX1_sweep_1 : decode cX1_sweep 1 = .ok (.istore_n 1, 1) := dk_60 (dk_at dksX1_sweep_0 1 rfl rfl)
theorem dX1_sweep_2 : decode cX1_sweep 2 = .ok (.iconst 0, 1) := dk_3 (dk_at dksX1_sweep_0 2 rfl rfl)
theorem dX1_sweep_3 : decode cX1_sweep 3 = .ok (.istore_n 2, 1) := dk_61 (dk_at dksX1_sweep_0 3 rfl rfl)
theorem dX1_sweep_4 : decode cX1_sweep 4 = .ok (.iload_n 2, 1) := dk_28 (dk_at dksX1_sweep_0 4 rfl rfl)
theorem dX1_sweep_5 : decode cX1_sweep 5 = .ok (.aload_n 0, 1) := dk_42 (dk_at dksX1_sweep_0 5 rfl rfl)
theorem dX1_sweep_6 : decode cX1_sweep 6 = .ok (.getfield 27, 3) := dk_180 0 27 (dk_at dksX1_sweep_0 6 rfl rfl)
theorem dX1_sweep_9 : decode cX1_sweep 9 = .ok (.invokeinterface 105 1, 5) := by decide +kernel
theorem dX1_sweep_14 : decode cX1_sweep 14 = .ok (.if_icmp .ge 33, 3) := dk_162 0 33 (dk_at dksX1_sweep_0 14 rfl rfl)
theorem dX1_sweep_17 : decode cX1_sweep 17 = .ok (.iload_n 1, 1) := dk_27 (dk_at dksX1_sweep_0 17 rfl rfl)
theorem dX1_sweep_18 : decode cX1_sweep 18 = .ok (.aload_n 0, 1) := dk_42 (dk_at dksX1_sweep_0 18 rfl rfl)
theorem dX1_sweep_19 : decode cX1_sweep 19 = .ok (.getfield 476, 3) := dk_180 1 220 (dk_at dksX1_sweep_0 19 rfl rfl)
theorem dX1_sweep_22 : decode cX1_sweep 22 = .ok (.iload_n 2, 1) := dk_28 (dk_at dksX1_sweep_0 22 rfl rfl)
theorem dX1_sweep_23 : decode cX1_sweep 23 = .ok (.ishr, 1) := dk_122 (dk_at dksX1_sweep_0 23 rfl rfl)
theorem dX1_sweep_24 : decode cX1_sweep 24 = .ok (.iconst 1, 1) := dk_4 (dk_at dksX1_sweep_1 0 rfl rfl)
theorem dX1_sweep_25 : decode cX1_sweep 25 = .ok (.iand, 1) := dk_126 (dk_at dksX1_sweep_1 1 rfl rfl)
theorem dX1_sweep_26 : decode cX1_sweep 26 = .ok (.iconst 1, 1) := dk_4 (dk_at dksX1_sweep_1 2 rfl rfl)
theorem dX1_sweep_27 : decode cX1_sweep 27 = .ok (.if_icmp .ne 11, 3) := dk_160 0 11 (dk_at dksX1_sweep_1 3 rfl rfl)
theorem dX1_sweep_30 : decode cX1_sweep 30 = .ok (.aload_n 0, 1) := dk_42 (dk_at dksX1_sweep_1 6 rfl rfl)
theorem dX1_sweep_31 : decode cX1_sweep 31 = .ok (.iload_n 2, 1) := dk_28 (dk_at dksX1_sweep_1 7 rfl rfl)
theorem dX1_sweep_32 : decode cX1_sweep 32 = .ok (.invokevirtual 260, 3) := dk_182 1 4 (dk_at dksX1_sweep_1 8 rfl rfl)
theorem dX1_sweep_35 : decode cX1_sweep 35 = .ok (.goto 4, 3) := dk_167 0 4 (dk_at dksX1_sweep_1 11 rfl rfl)
theorem dX1_sweep_38 : decode cX1_sweep 38 = .ok (.iconst 0, 1) := dk_3 (dk_at dksX1_sweep_1 14 rfl rfl)
theorem dX1_sweep_39 : decode cX1_sweep 39 = .ok (.ior, 1) := dk_128 (dk_at dksX1_sweep_1 15 rfl rfl)
theorem dX1_sweep_40 : decode cX1_sweep 40 = .ok (.istore_n 1, 1) := dk_60 (dk_at dksX1_sweep_1 16 rfl rfl)
theorem dX1_sweep_41 : decode cX1_sweep 41 = .ok (.iinc 2 1, 3) := dk_132 2 1 (dk_at dksX1_sweep_1 17 rfl rfl)
theorem dX1_sweep_44 : decode cX1_sweep 44 = .ok (.goto (-40), 3) := dk_167 255 216 (dk_at dksX1_sweep_1 20 rfl rfl)
theorem dX1_sweep_47 : decode cX1_sweep 47 = .ok (.aload_n 0, 1) := dk_42 (dk_at dksX1_sweep_1 23 rfl rfl)
theorem dX1_sweep_48 : decode cX1_sweep 48 = .ok (.getfield 470, 3) := dk_180 1 214 (dk_at dksX1_sweep_2 0 rfl rfl)
theorem dX1_sweep_51 : decode cX1_sweep 51 = .ok (.iload_n 1, 1) := dk_27 (dk_at dksX1_sweep_2 3 rfl rfl)
theorem dX1_sweep_52 : decode cX1_sweep 52 = .ok (.iconst (-1), 1) := dk_2 (dk_at dksX1_sweep_2 4 rfl rfl)
theorem dX1_sweep_53 : decode cX1_sweep 53 = .ok (.ixor, 1) := dk_130 (dk_at dksX1_sweep_2 5 rfl rfl)
theorem dX1_sweep_54 : decode cX1_sweep 54 = .ok (.iand, 1) := dk_126 (dk_at dksX1_sweep_2 6 rfl rfl)
theorem dX1_sweep_55 : decode cX1_sweep 55 = .ok (.invokestatic 473, 3) := dk_184 1 217 (dk_at dksX1_sweep_2 7 rfl rfl)
theorem dX1_sweep_58 : decode cX1_sweep 58 = .ok (.istore_n 2, 1) := dk_61 (dk_at dksX1_sweep_2 10 rfl rfl)
theorem dX1_sweep_59 : decode cX1_sweep 59 = .ok (.aload_n 0, 1) := dk_42 (dk_at dksX1_sweep_2 11 rfl rfl)
theorem dX1_sweep_60 : decode cX1_sweep 60 = .ok (.dup, 1) := dk_89 (dk_at dksX1_sweep_2 12 rfl rfl)
theorem dX1_sweep_61 : decode cX1_sweep 61 = .ok (.getfield 470, 3) := dk_180 1 214 (dk_at dksX1_sweep_2 13 rfl rfl)
theorem dX1_sweep_64 : decode cX1_sweep 64 = .ok (.iload_n 1, 1) := dk_27 (dk_at dksX1_sweep_2 16 rfl rfl)
theorem dX1_sweep_65 : decode cX1_sweep 65 = .ok (.iand, 1) := dk_126 (dk_at dksX1_sweep_2 17 rfl rfl)
theorem dX1_sweep_66 : decode cX1_sweep 66 = .ok (.putfield 470, 3) := dk_181 1 214 (dk_at dksX1_sweep_2 18 rfl rfl)
theorem dX1_sweep_69 : decode cX1_sweep 69 = .ok (.iload_n 2, 1) := dk_28 (dk_at dksX1_sweep_2 21 rfl rfl)
theorem dX1_sweep_70 : decode cX1_sweep 70 = .ok (.ireturn, 1) := dk_172 (dk_at dksX1_sweep_2 22 rfl rfl)
abbrev cX1_layersOf : ByteArray := prog_1_method_29_code
def yX1_layersOf : MethodName := ⟨RX1, "layersOf", "(I)I"⟩
def dkwX1_layersOf_2 : List UInt8 := [182, 0, 200, 120, 128, 61, 132, 4, 1, 167, 255, 223, 28, 172]
abbrev dktX1_layersOf_2 : List UInt8 := dkwX1_layersOf_2 ++ []
def dkwX1_layersOf_1 : List UInt8 := [45, 185, 0, 105, 1, 0, 162, 0, 28, 28, 4, 45, 21, 4, 185, 0, 109, 2, 0, 192, 0, 172]
abbrev dktX1_layersOf_1 : List UInt8 := dkwX1_layersOf_1 ++ dktX1_layersOf_2
def dkwX1_layersOf_0 : List UInt8 := [3, 61, 42, 180, 0, 27, 27, 185, 0, 109, 2, 0, 192, 0, 73, 180, 0, 165, 78, 3, 54, 4, 21, 4]
abbrev dktX1_layersOf_0 : List UInt8 := dkwX1_layersOf_0 ++ dktX1_layersOf_1
theorem dksX1_layersOf_0 : cX1_layersOf.data.toList.drop 0 = dktX1_layersOf_0 := by decide +kernel
theorem dksX1_layersOf_1 : cX1_layersOf.data.toList.drop 24 = dktX1_layersOf_1 := dk_seg dksX1_layersOf_0 24 rfl rfl
theorem dksX1_layersOf_2 : cX1_layersOf.data.toList.drop 46 = dktX1_layersOf_2 := dk_seg dksX1_layersOf_1 22 rfl rfl
theorem dX1_layersOf_0 : decode cX1_layersOf 0 = .ok (.iconst 0, 1) := dk_3 (dk_at dksX1_layersOf_0 0 rfl rfl)
theorem dX1_layersOf_1 : decode cX1_layersOf 1 = .ok (.istore_n 2, 1) := dk_61 (dk_at dksX1_layersOf_0 1 rfl rfl)
theorem dX1_layersOf_2 : decode cX1_layersOf 2 = .ok (.aload_n 0, 1) := dk_42 (dk_at dksX1_layersOf_0 2 rfl rfl)
theorem dX1_layersOf_3 : decode cX1_layersOf 3 = .ok (.getfield 27, 3) := dk_180 0 27 (dk_at dksX1_layersOf_0 3 rfl rfl)
theorem dX1_layersOf_6 : decode cX1_layersOf 6 = .ok (.iload_n 1, 1) := dk_27 (dk_at dksX1_layersOf_0 6 rfl rfl)
theorem dX1_layersOf_7 : decode cX1_layersOf 7 = .ok (.invokeinterface 109 2, 5) := by decide +kernel
theorem dX1_layersOf_12 : decode cX1_layersOf 12 = .ok (.checkcast 73, 3) := dk_192 0 73 (dk_at dksX1_layersOf_0 12 rfl rfl)
theorem dX1_layersOf_15 : decode cX1_layersOf 15 = .ok (.getfield 165, 3) := dk_180 0 165 (dk_at dksX1_layersOf_0 15 rfl rfl)
theorem dX1_layersOf_18 : decode cX1_layersOf 18 = .ok (.astore_n 3, 1) := dk_78 (dk_at dksX1_layersOf_0 18 rfl rfl)
theorem dX1_layersOf_19 : decode cX1_layersOf 19 = .ok (.iconst 0, 1) := dk_3 (dk_at dksX1_layersOf_0 19 rfl rfl)
theorem dX1_layersOf_20 : decode cX1_layersOf 20 = .ok (.istore 4, 2) := dk_54 4 (dk_at dksX1_layersOf_0 20 rfl rfl)
theorem dX1_layersOf_22 : decode cX1_layersOf 22 = .ok (.iload 4, 2) := dk_21 4 (dk_at dksX1_layersOf_0 22 rfl rfl)
theorem dX1_layersOf_24 : decode cX1_layersOf 24 = .ok (.aload_n 3, 1) := dk_45 (dk_at dksX1_layersOf_1 0 rfl rfl)
theorem dX1_layersOf_25 : decode cX1_layersOf 25 = .ok (.invokeinterface 105 1, 5) := by decide +kernel
theorem dX1_layersOf_30 : decode cX1_layersOf 30 = .ok (.if_icmp .ge 28, 3) := dk_162 0 28 (dk_at dksX1_layersOf_1 6 rfl rfl)
theorem dX1_layersOf_33 : decode cX1_layersOf 33 = .ok (.iload_n 2, 1) := dk_28 (dk_at dksX1_layersOf_1 9 rfl rfl)
theorem dX1_layersOf_34 : decode cX1_layersOf 34 = .ok (.iconst 1, 1) := dk_4 (dk_at dksX1_layersOf_1 10 rfl rfl)
theorem dX1_layersOf_35 : decode cX1_layersOf 35 = .ok (.aload_n 3, 1) := dk_45 (dk_at dksX1_layersOf_1 11 rfl rfl)
theorem dX1_layersOf_36 : decode cX1_layersOf 36 = .ok (.iload 4, 2) := dk_21 4 (dk_at dksX1_layersOf_1 12 rfl rfl)
theorem dX1_layersOf_38 : decode cX1_layersOf 38 = .ok (.invokeinterface 109 2, 5) := by decide +kernel
theorem dX1_layersOf_43 : decode cX1_layersOf 43 = .ok (.checkcast 172, 3) := dk_192 0 172 (dk_at dksX1_layersOf_1 19 rfl rfl)
theorem dX1_layersOf_46 : decode cX1_layersOf 46 = .ok (.invokevirtual 200, 3) := dk_182 0 200 (dk_at dksX1_layersOf_2 0 rfl rfl)
theorem dX1_layersOf_49 : decode cX1_layersOf 49 = .ok (.ishl, 1) := dk_120 (dk_at dksX1_layersOf_2 3 rfl rfl)
theorem dX1_layersOf_50 : decode cX1_layersOf 50 = .ok (.ior, 1) := dk_128 (dk_at dksX1_layersOf_2 4 rfl rfl)
theorem dX1_layersOf_51 : decode cX1_layersOf 51 = .ok (.istore_n 2, 1) := dk_61 (dk_at dksX1_layersOf_2 5 rfl rfl)
theorem dX1_layersOf_52 : decode cX1_layersOf 52 = .ok (.iinc 4 1, 3) := dk_132 4 1 (dk_at dksX1_layersOf_2 6 rfl rfl)
theorem dX1_layersOf_55 : decode cX1_layersOf 55 = .ok (.goto (-33), 3) := dk_167 255 223 (dk_at dksX1_layersOf_2 9 rfl rfl)
theorem dX1_layersOf_58 : decode cX1_layersOf 58 = .ok (.iload_n 2, 1) := dk_28 (dk_at dksX1_layersOf_2 12 rfl rfl)
theorem dX1_layersOf_59 : decode cX1_layersOf 59 = .ok (.ireturn, 1) := dk_172 (dk_at dksX1_layersOf_2 13 rfl rfl)
abbrev cX1_dropLayers : ByteArray := prog_1_method_82_code
def yX1_dropLayers : MethodName := ⟨RX1, "dropLayers", "()I"⟩
def dkwX1_dropLayers_4 : List UInt8 := [180, 0, 151, 27, 2, 130, 126, 184, 1, 217, 61, 42, 89, 180, 0, 151, 27, 126, 181, 0, 151, 28, 172]
abbrev dktX1_dropLayers_4 : List UInt8 := dkwX1_dropLayers_4 ++ []
def dkwX1_dropLayers_3 : List UInt8 := [185, 0, 109, 2, 0, 192, 1, 223, 180, 1, 225, 182, 1, 4, 128, 60, 132, 2, 1, 167, 255, 217, 42]
abbrev dktX1_dropLayers_3 : List UInt8 := dkwX1_dropLayers_3 ++ dktX1_dropLayers_4
def dkwX1_dropLayers_2 : List UInt8 := [28, 42, 180, 0, 56, 185, 0, 105, 1, 0, 162, 0, 32, 27, 42, 42, 180, 0, 56, 28]
abbrev dktX1_dropLayers_2 : List UInt8 := dkwX1_dropLayers_2 ++ dktX1_dropLayers_3
def dkwX1_dropLayers_1 : List UInt8 := [185, 0, 109, 2, 0, 192, 0, 113, 180, 1, 30, 182, 1, 4, 128, 60, 132, 2, 1, 167, 255, 217, 3, 61]
abbrev dktX1_dropLayers_1 : List UInt8 := dkwX1_dropLayers_1 ++ dktX1_dropLayers_2
def dkwX1_dropLayers_0 : List UInt8 := [3, 60, 3, 61, 28, 42, 180, 0, 30, 185, 0, 105, 1, 0, 162, 0, 32, 27, 42, 42, 180, 0, 30, 28]
abbrev dktX1_dropLayers_0 : List UInt8 := dkwX1_dropLayers_0 ++ dktX1_dropLayers_1
theorem dksX1_dropLayers_0 : cX1_dropLayers.data.toList.drop 0 = dktX1_dropLayers_0 := by decide +kernel
theorem dksX1_dropLayers_1 : cX1_dropLayers.data.toList.drop 24 = dktX1_dropLayers_1 := dk_seg dksX1_dropLayers_0 24 rfl rfl
theorem dksX1_dropLayers_2 : cX1_dropLayers.data.toList.drop 48 = dktX1_dropLayers_2 := dk_seg dksX1_dropLayers_1 24 rfl rfl
theorem dksX1_dropLayers_3 : cX1_dropLayers.data.toList.drop 68 = dktX1_dropLayers_3 := dk_seg dksX1_dropLayers_2 20 rfl rfl
theorem dksX1_dropLayers_4 : cX1_dropLayers.data.toList.drop 91 = dktX1_dropLayers_4 := dk_seg dksX1_dropLayers_3 23 rfl rfl
theorem dX1_dropLayers_0 : decode cX1_dropLayers 0 = .ok (.iconst 0, 1) := dk_3 (dk_at dksX1_dropLayers_0 0 rfl rfl)
theorem dX1_dropLayers_1 : decode cX1_dropLayers 1 = .ok (.istore_n 1, 1) := dk_60 (dk_at dksX1_dropLayers_0 1 rfl rfl)
theorem dX1_dropLayers_2 : decode cX1_dropLayers 2 = .ok (.iconst 0, 1) := dk_3 (dk_at dksX1_dropLayers_0 2 rfl rfl)
theorem dX1_dropLayers_3 : decode cX1_dropLayers 3 = .ok (.istore_n 2, 1) := dk_61 (dk_at dksX1_dropLayers_0 3 rfl rfl)
theorem dX1_dropLayers_4 : decode cX1_dropLayers 4 = .ok (.iload_n 2, 1) := dk_28 (dk_at dksX1_dropLayers_0 4 rfl rfl)
theorem dX1_dropLayers_5 : decode cX1_dropLayers 5 = .ok (.aload_n 0, 1) := dk_42 (dk_at dksX1_dropLayers_0 5 rfl rfl)
theorem dX1_dropLayers_6 : decode cX1_dropLayers 6 = .ok (.getfield 30, 3) := dk_180 0 30 (dk_at dksX1_dropLayers_0 6 rfl rfl)
theorem dX1_dropLayers_9 : decode cX1_dropLayers 9 = .ok (.invokeinterface 105 1, 5) := by decide +kernel
theorem dX1_dropLayers_14 : decode cX1_dropLayers 14 = .ok (.if_icmp .ge 32, 3) := dk_162 0 32 (dk_at dksX1_dropLayers_0 14 rfl rfl)
theorem dX1_dropLayers_17 : decode cX1_dropLayers 17 = .ok (.iload_n 1, 1) := dk_27 (dk_at dksX1_dropLayers_0 17 rfl rfl)
theorem dX1_dropLayers_18 : decode cX1_dropLayers 18 = .ok (.aload_n 0, 1) := dk_42 (dk_at dksX1_dropLayers_0 18 rfl rfl)
theorem dX1_dropLayers_19 : decode cX1_dropLayers 19 = .ok (.aload_n 0, 1) := dk_42 (dk_at dksX1_dropLayers_0 19 rfl rfl)
theorem dX1_dropLayers_20 : decode cX1_dropLayers 20 = .ok (.getfield 30, 3) := dk_180 0 30 (dk_at dksX1_dropLayers_0 20 rfl rfl)
theorem dX1_dropLayers_23 : decode cX1_dropLayers 23 = .ok (.iload_n 2, 1) := dk_28 (dk_at dksX1_dropLayers_0 23 rfl rfl)
theorem dX1_dropLayers_24 : decode cX1_dropLayers 24 = .ok (.invokeinterface 109 2, 5) := by decide +kernel
theorem dX1_dropLayers_29 : decode cX1_dropLayers 29 = .ok (.checkcast 113, 3) := dk_192 0 113 (dk_at dksX1_dropLayers_1 5 rfl rfl)
theorem dX1_dropLayers_32 : decode cX1_dropLayers 32 = .ok (.getfield 286, 3) := dk_180 1 30 (dk_at dksX1_dropLayers_1 8 rfl rfl)
theorem dX1_dropLayers_35 : decode cX1_dropLayers 35 = .ok (.invokevirtual 260, 3) := dk_182 1 4 (dk_at dksX1_dropLayers_1 11 rfl rfl)
theorem dX1_dropLayers_38 : decode cX1_dropLayers 38 = .ok (.ior, 1) := dk_128 (dk_at dksX1_dropLayers_1 14 rfl rfl)
theorem dX1_dropLayers_39 : decode cX1_dropLayers 39 = .ok (.istore_n 1, 1) := dk_60 (dk_at dksX1_dropLayers_1 15 rfl rfl)
theorem dX1_dropLayers_40 : decode cX1_dropLayers 40 = .ok (.iinc 2 1, 3) := dk_132 2 1 (dk_at dksX1_dropLayers_1 16 rfl rfl)
theorem dX1_dropLayers_43 : decode cX1_dropLayers 43 = .ok (.goto (-39), 3) := dk_167 255 217 (dk_at dksX1_dropLayers_1 19 rfl rfl)
theorem dX1_dropLayers_46 : decode cX1_dropLayers 46 = .ok (.iconst 0, 1) := dk_3 (dk_at dksX1_dropLayers_1 22 rfl rfl)
theorem dX1_dropLayers_47 : decode cX1_dropLayers 47 = .ok (.istore_n 2, 1) := dk_61 (dk_at dksX1_dropLayers_1 23 rfl rfl)
theorem dX1_dropLayers_48 : decode cX1_dropLayers 48 = .ok (.iload_n 2, 1) := dk_28 (dk_at dksX1_dropLayers_2 0 rfl rfl)
theorem dX1_dropLayers_49 : decode cX1_dropLayers 49 = .ok (.aload_n 0, 1) := dk_42 (dk_at dksX1_dropLayers_2 1 rfl rfl)
theorem dX1_dropLayers_50 : decode cX1_dropLayers 50 = .ok (.getfield 56, 3) := dk_180 0 56 (dk_at dksX1_dropLayers_2 2 rfl rfl)
theorem dX1_dropLayers_53 : decode cX1_dropLayers 53 = .ok (.invokeinterface 105 1, 5) := by decide +kernel
theorem dX1_dropLayers_58 : decode cX1_dropLayers 58 = .ok (.if_icmp .ge 32, 3) := dk_162 0 32 (dk_at dksX1_dropLayers_2 10 rfl rfl)
theorem dX1_dropLayers_61 : decode cX1_dropLayers 61 = .ok (.iload_n 1, 1) := dk_27 (dk_at dksX1_dropLayers_2 13 rfl rfl)
theorem dX1_dropLayers_62 : decode cX1_dropLayers 62 = .ok (.aload_n 0, 1) := dk_42 (dk_at dksX1_dropLayers_2 14 rfl rfl)
theorem dX1_dropLayers_63 : decode cX1_dropLayers 63 = .ok (.aload_n 0, 1) := dk_42 (dk_at dksX1_dropLayers_2 15 rfl rfl)
theorem dX1_dropLayers_64 : decode cX1_dropLayers 64 = .ok (.getfield 56, 3) := dk_180 0 56 (dk_at dksX1_dropLayers_2 16 rfl rfl)
theorem dX1_dropLayers_67 : decode cX1_dropLayers 67 = .ok (.iload_n 2, 1) := dk_28 (dk_at dksX1_dropLayers_2 19 rfl rfl)
theorem dX1_dropLayers_68 : decode cX1_dropLayers 68 = .ok (.invokeinterface 109 2, 5) := by decide +kernel
theorem dX1_dropLayers_73 : decode cX1_dropLayers 73 = .ok (.checkcast 479, 3) := dk_192 1 223 (dk_at dksX1_dropLayers_3 5 rfl rfl)
theorem dX1_dropLayers_76 : decode cX1_dropLayers 76 = .ok (.getfield 481, 3) := dk_180 1 225 (dk_at dksX1_dropLayers_3 8 rfl rfl)
theorem dX1_dropLayers_79 : decode cX1_dropLayers 79 = .ok (.invokevirtual 260, 3) := dk_182 1 4 (dk_at dksX1_dropLayers_3 11 rfl rfl)
theorem dX1_dropLayers_82 : decode cX1_dropLayers 82 = .ok (.ior, 1) := dk_128 (dk_at dksX1_dropLayers_3 14 rfl rfl)
theorem dX1_dropLayers_83 : decode cX1_dropLayers 83 = .ok (.istore_n 1, 1) := dk_60 (dk_at dksX1_dropLayers_3 15 rfl rfl)
theorem dX1_dropLayers_84 : decode cX1_dropLayers 84 = .ok (.iinc 2 1, 3) := dk_132 2 1 (dk_at dksX1_dropLayers_3 16 rfl rfl)
theorem dX1_dropLayers_87 : decode cX1_dropLayers 87 = .ok (.goto (-39), 3) := dk_167 255 217 (dk_at dksX1_dropLayers_3 19 rfl rfl)
theorem dX1_dropLayers_90 : decode cX1_dropLayers 90 = .ok (.aload_n 0, 1) := dk_42 (dk_at dksX1_dropLayers_3 22 rfl rfl)
theorem dX1_dropLayers_91 : decode cX1_dropLayers 91 = .ok (.getfield 151, 3) := dk_180 0 151 (dk_at dksX1_dropLayers_4 0 rfl rfl)
theorem dX1_dropLayers_94 : decode cX1_dropLayers 94 = .ok (.iload_n 1, 1) := dk_27 (dk_at dksX1_dropLayers_4 3 rfl rfl)
theorem dX1_dropLayers_95 : decode cX1_dropLayers 95 = .ok (.iconst (-1), 1) := dk_2 (dk_at dksX1_dropLayers_4 4 rfl rfl)
theorem dX1_dropLayers_96 : decode cX1_dropLayers 96 = .ok (.ixor, 1) := dk_130 (dk_at dksX1_dropLayers_4 5 rfl rfl)
theorem dX1_dropLayers_97 : decode cX1_dropLayers 97 = .ok (.iand, 1) := dk_126 (dk_at dksX1_dropLayers_4 6 rfl rfl)
theorem dX1_dropLayers_98 : decode cX1_dropLayers 98 = .ok (.invokestatic 473, 3) := dk_184 1 217 (dk_at dksX1_dropLayers_4 7 rfl rfl)
theorem dX1_dropLayers_101 : decode cX1_dropLayers 101 = .ok (.istore_n 2, 1) := dk_61 (dk_at dksX1_dropLayers_4 10 rfl rfl)
theorem dX1_dropLayers_102 : decode cX1_dropLayers 102 = .ok (.aload_n 0, 1) := dk_42 (dk_at dksX1_dropLayers_4 11 rfl rfl)
theorem dX1_dropLayers_103 : decode cX1_dropLayers 103 = .ok (.dup, 1) := dk_89 (dk_at dksX1_dropLayers_4 12 rfl rfl)
theorem dX1_dropLayers_104 : decode cX1_dropLayers 104 = .ok (.getfield 151, 3) := dk_180 0 151 (dk_at dksX1_dropLayers_4 13 rfl rfl)
theorem dX1_dropLayers_107 : decode cX1_dropLayers 107 = .ok (.iload_n 1, 1) := dk_27 (dk_at dksX1_dropLayers_4 16 rfl rfl)
theorem dX1_dropLayers_108 : decode cX1_dropLayers 108 = .ok (.iand, 1) := dk_126 (dk_at dksX1_dropLayers_4 17 rfl rfl)
theorem dX1_dropLayers_109 : decode cX1_dropLayers 109 = .ok (.putfield 151, 3) := dk_181 0 151 (dk_at dksX1_dropLayers_4 18 rfl rfl)
theorem dX1_dropLayers_112 : decode cX1_dropLayers 112 = .ok (.iload_n 2, 1) := dk_28 (dk_at dksX1_dropLayers_4 21 rfl rfl)
theorem dX1_dropLayers_113 : decode cX1_dropLayers 113 = .ok (.ireturn, 1) := dk_172 (dk_at dksX1_dropLayers_4 22 rfl rfl)
abbrev cX1_layers : ByteArray := prog_1_method_83_code
def yX1_layers : MethodName := ⟨RX1, "layers", "(Z)I"⟩
def dkwX1_layers_0 : List UInt8 := [27, 153, 0, 10, 42, 180, 0, 151, 167, 0, 7, 42, 180, 1, 214, 172]
abbrev dktX1_layers_0 : List UInt8 := dkwX1_layers_0 ++ []
theorem dksX1_layers_0 : cX1_layers.data.toList.drop 0 = dktX1_layers_0 := by decide +kernel
theorem dX1_layers_0 : decode cX1_layers 0 = .ok (.iload_n 1, 1) := dk_27 (dk_at dksX1_layers_0 0 rfl rfl)
theorem dX1_layers_1 : decode cX1_layers 1 = .ok (.ifCond .eq 10, 3) := dk_153 0 10 (dk_at dksX1_layers_0 1 rfl rfl)
theorem dX1_layers_4 : decode cX1_layers 4 = .ok (.aload_n 0, 1) := dk_42 (dk_at dksX1_layers_0 4 rfl rfl)
theorem dX1_layers_5 : decode cX1_layers 5 = .ok (.getfield 151, 3) := dk_180 0 151 (dk_at dksX1_layers_0 5 rfl rfl)
theorem dX1_layers_8 : decode cX1_layers 8 = .ok (.goto 7, 3) := dk_167 0 7 (dk_at dksX1_layers_0 8 rfl rfl)
theorem dX1_layers_11 : decode cX1_layers 11 = .ok (.aload_n 0, 1) := dk_42 (dk_at dksX1_layers_0 11 rfl rfl)
theorem dX1_layers_12 : decode cX1_layers 12 = .ok (.getfield 470, 3) := dk_180 1 214 (dk_at dksX1_layers_0 12 rfl rfl)
theorem dX1_layers_15 : decode cX1_layers 15 = .ok (.ireturn, 1) := dk_172 (dk_at dksX1_layers_0 15 rfl rfl)
abbrev cX1_entry : ByteArray := prog_1_method_11_code
def yX1_entry : MethodName := ⟨RX1, "entry", "(III)I"⟩
def dkwX1_entry_3 : List UInt8 := [29, 182, 0, 140, 42, 180, 0, 16, 180, 0, 133, 185, 0, 105, 1, 0, 172]
abbrev dktX1_entry_3 : List UInt8 := dkwX1_entry_3 ++ []
def dkwX1_entry_2 : List UInt8 := [185, 0, 105, 1, 0, 16, 10, 162, 0, 7, 4, 167, 0, 4, 3, 184, 0, 136, 42, 180, 0, 16, 27, 28]
abbrev dktX1_entry_2 : List UInt8 := dkwX1_entry_2 ++ dktX1_entry_3
def dkwX1_entry_1 : List UInt8 := [184, 0, 125, 42, 180, 0, 16, 27, 182, 0, 129, 199, 0, 20, 42, 180, 0, 16, 180, 0, 133]
abbrev dktX1_entry_1 : List UInt8 := dkwX1_entry_1 ++ dktX1_entry_2
def dkwX1_entry_0 : List UInt8 := [27, 184, 0, 122, 28, 4, 7, 184, 0, 125, 29, 3, 28, 4, 160, 0, 9, 17, 3, 231, 167, 0, 4, 3]
abbrev dktX1_entry_0 : List UInt8 := dkwX1_entry_0 ++ dktX1_entry_1
theorem dksX1_entry_0 : cX1_entry.data.toList.drop 0 = dktX1_entry_0 := by decide +kernel
theorem dksX1_entry_1 : cX1_entry.data.toList.drop 24 = dktX1_entry_1 := dk_seg dksX1_entry_0 24 rfl rfl
theorem dksX1_entry_2 : cX1_entry.data.toList.drop 45 = dktX1_entry_2 := dk_seg dksX1_entry_1 21 rfl rfl
theorem dksX1_entry_3 : cX1_entry.data.toList.drop 69 = dktX1_entry_3 := dk_seg dksX1_entry_2 24 rfl rfl
theorem dX1_entry_0 : decode cX1_entry 0 = .ok (.iload_n 1, 1) := dk_27 (dk_at dksX1_entry_0 0 rfl rfl)
theorem dX1_entry_1 : decode cX1_entry 1 = .ok (.invokestatic 122, 3) := dk_184 0 122 (dk_at dksX1_entry_0 1 rfl rfl)
theorem dX1_entry_4 : decode cX1_entry 4 = .ok (.iload_n 2, 1) := dk_28 (dk_at dksX1_entry_0 4 rfl rfl)
theorem dX1_entry_5 : decode cX1_entry 5 = .ok (.iconst 1, 1) := dk_4 (dk_at dksX1_entry_0 5 rfl rfl)
theorem dX1_entry_6 : decode cX1_entry 6 = .ok (.iconst 4, 1) := dk_7 (dk_at dksX1_entry_0 6 rfl rfl)
theorem dX1_entry_7 : decode cX1_entry 7 = .ok (.invokestatic 125, 3) := dk_184 0 125 (dk_at dksX1_entry_0 7 rfl rfl)
theorem dX1_entry_10 : decode cX1_entry 10 = .ok (.iload_n 3, 1) := dk_29 (dk_at dksX1_entry_0 10 rfl rfl)
theorem dX1_entry_11 : decode cX1_entry 11 = .ok (.iconst 0, 1) := dk_3 (dk_at dksX1_entry_0 11 rfl rfl)
theorem dX1_entry_12 : decode cX1_entry 12 = .ok (.iload_n 2, 1) := dk_28 (dk_at dksX1_entry_0 12 rfl rfl)
theorem dX1_entry_13 : decode cX1_entry 13 = .ok (.iconst 1, 1) := dk_4 (dk_at dksX1_entry_0 13 rfl rfl)
theorem dX1_entry_14 : decode cX1_entry 14 = .ok (.if_icmp .ne 9, 3) := dk_160 0 9 (dk_at dksX1_entry_0 14 rfl rfl)
theorem dX1_entry_17 : decode cX1_entry 17 = .ok (.sipush 999, 3) := dk_17 3 231 (dk_at dksX1_entry_0 17 rfl rfl)
theorem dX1_entry_20 : decode cX1_entry 20 = .ok (.goto 4, 3) := dk_167 0 4 (dk_at dksX1_entry_0 20 rfl rfl)
theorem dX1_entry_23 : decode cX1_entry 23 = .ok (.iconst 0, 1) := dk_3 (dk_at dksX1_entry_0 23 rfl rfl)
theorem dX1_entry_24 : decode cX1_entry 24 = .ok (.invokestatic 125, 3) := dk_184 0 125 (dk_at dksX1_entry_1 0 rfl rfl)
theorem dX1_entry_27 : decode cX1_entry 27 = .ok (.aload_n 0, 1) := dk_42 (dk_at dksX1_entry_1 3 rfl rfl)
theorem dX1_entry_28 : decode cX1_entry 28 = .ok (.getfield 16, 3) := dk_180 0 16 (dk_at dksX1_entry_1 4 rfl rfl)
theorem dX1_entry_31 : decode cX1_entry 31 = .ok (.iload_n 1, 1) := dk_27 (dk_at dksX1_entry_1 7 rfl rfl)
theorem dX1_entry_32 : decode cX1_entry 32 = .ok (.invokevirtual 129, 3) := dk_182 0 129 (dk_at dksX1_entry_1 8 rfl rfl)
theorem dX1_entry_35 : decode cX1_entry 35 = .ok (.ifnonnull 20, 3) := dk_199 0 20 (dk_at dksX1_entry_1 11 rfl rfl)
theorem dX1_entry_38 : decode cX1_entry 38 = .ok (.aload_n 0, 1) := dk_42 (dk_at dksX1_entry_1 14 rfl rfl)
theorem dX1_entry_39 : decode cX1_entry 39 = .ok (.getfield 16, 3) := dk_180 0 16 (dk_at dksX1_entry_1 15 rfl rfl)
theorem dX1_entry_42 : decode cX1_entry 42 = .ok (.getfield 133, 3) := dk_180 0 133 (dk_at dksX1_entry_1 18 rfl rfl)
theorem dX1_entry_45 : decode cX1_entry 45 = .ok (.invokeinterface 105 1, 5) := by decide +kernel
theorem dX1_entry_50 : decode cX1_entry 50 = .ok (.bipush 10, 2) := dk_16 10 (dk_at dksX1_entry_2 5 rfl rfl)
theorem dX1_entry_52 : decode cX1_entry 52 = .ok (.if_icmp .ge 7, 3) := dk_162 0 7 (dk_at dksX1_entry_2 7 rfl rfl)
theorem dX1_entry_55 : decode cX1_entry 55 = .ok (.iconst 1, 1) := dk_4 (dk_at dksX1_entry_2 10 rfl rfl)
theorem dX1_entry_56 : decode cX1_entry 56 = .ok (.goto 4, 3) := dk_167 0 4 (dk_at dksX1_entry_2 11 rfl rfl)
theorem dX1_entry_59 : decode cX1_entry 59 = .ok (.iconst 0, 1) := dk_3 (dk_at dksX1_entry_2 14 rfl rfl)
theorem dX1_entry_60 : decode cX1_entry 60 = .ok (.invokestatic 136, 3) := dk_184 0 136 (dk_at dksX1_entry_2 15 rfl rfl)
theorem dX1_entry_63 : decode cX1_entry 63 = .ok (.aload_n 0, 1) := dk_42 (dk_at dksX1_entry_2 18 rfl rfl)
theorem dX1_entry_64 : decode cX1_entry 64 = .ok (.getfield 16, 3) := dk_180 0 16 (dk_at dksX1_entry_2 19 rfl rfl)
theorem dX1_entry_67 : decode cX1_entry 67 = .ok (.iload_n 1, 1) := dk_27 (dk_at dksX1_entry_2 22 rfl rfl)
theorem dX1_entry_68 : decode cX1_entry 68 = .ok (.iload_n 2, 1) := dk_28 (dk_at dksX1_entry_2 23 rfl rfl)
theorem dX1_entry_69 : decode cX1_entry 69 = .ok (.iload_n 3, 1) := dk_29 (dk_at dksX1_entry_3 0 rfl rfl)
theorem dX1_entry_70 : decode cX1_entry 70 = .ok (.invokevirtual 140, 3) := dk_182 0 140 (dk_at dksX1_entry_3 1 rfl rfl)
theorem dX1_entry_73 : decode cX1_entry 73 = .ok (.aload_n 0, 1) := dk_42 (dk_at dksX1_entry_3 4 rfl rfl)
theorem dX1_entry_74 : decode cX1_entry 74 = .ok (.getfield 16, 3) := dk_180 0 16 (dk_at dksX1_entry_3 5 rfl rfl)
theorem dX1_entry_77 : decode cX1_entry 77 = .ok (.getfield 133, 3) := dk_180 0 133 (dk_at dksX1_entry_3 8 rfl rfl)
theorem dX1_entry_80 : decode cX1_entry 80 = .ok (.invokeinterface 105 1, 5) := by decide +kernel
theorem dX1_entry_85 : decode cX1_entry 85 = .ok (.ireturn, 1) := dk_172 (dk_at dksX1_entry_3 16 rfl rfl)
abbrev cX1_checkPath : ByteArray := prog_1_method_6_code
def yX1_checkPath : MethodName := ⟨RX1, "checkPath", "(I)V"⟩
def dkwX1_checkPath_0 : List UInt8 := [26, 184, 0, 95, 154, 0, 11, 187, 0, 92, 89, 183, 0, 94, 191, 177]
abbrev dktX1_checkPath_0 : List UInt8 := dkwX1_checkPath_0 ++ []
theorem dksX1_checkPath_0 : cX1_checkPath.data.toList.drop 0 = dktX1_checkPath_0 := by decide +kernel
theorem dX1_checkPath_0 : decode cX1_checkPath 0 = .ok (.iload_n 0, 1) := dk_26 (dk_at dksX1_checkPath_0 0 rfl rfl)
theorem dX1_checkPath_1 : decode cX1_checkPath 1 = .ok (.invokestatic 95, 3) := dk_184 0 95 (dk_at dksX1_checkPath_0 1 rfl rfl)
theorem dX1_checkPath_4 : decode cX1_checkPath 4 = .ok (.ifCond .ne 11, 3) := dk_154 0 11 (dk_at dksX1_checkPath_0 4 rfl rfl)
theorem dX1_checkPath_7 : decode cX1_checkPath 7 = .ok (.new 92, 3) := dk_187 0 92 (dk_at dksX1_checkPath_0 7 rfl rfl)
theorem dX1_checkPath_10 : decode cX1_checkPath 10 = .ok (.dup, 1) := dk_89 (dk_at dksX1_checkPath_0 10 rfl rfl)
theorem dX1_checkPath_11 : decode cX1_checkPath 11 = .ok (.invokespecial 94, 3) := dk_183 0 94 (dk_at dksX1_checkPath_0 11 rfl rfl)
theorem dX1_checkPath_14 : decode cX1_checkPath 14 = .ok (.athrow, 1) := dk_191 (dk_at dksX1_checkPath_0 14 rfl rfl)
theorem dX1_checkPath_15 : decode cX1_checkPath 15 = .ok (.return_, 1) := dk_177 (dk_at dksX1_checkPath_0 15 rfl rfl)
abbrev cX1_isPath : ByteArray := prog_1_method_1_code
def yX1_isPath : MethodName := ⟨RX1, "isPath", "(I)Z"⟩
def dkwX1_isPath_2 : List UInt8 := [172]
abbrev dktX1_isPath_2 : List UInt8 := dkwX1_isPath_2 ++ []
def dkwX1_isPath_1 : List UInt8 := [27, 28, 16, 10, 112, 153, 0, 7, 4, 167, 0, 4, 3, 126, 60, 28, 16, 10, 108, 61, 167, 255, 232, 27]
abbrev dktX1_isPath_1 : List UInt8 := dkwX1_isPath_1 ++ dktX1_isPath_2
def dkwX1_isPath_0 : List UInt8 := [26, 4, 161, 0, 14, 26, 17, 3, 231, 163, 0, 7, 4, 167, 0, 4, 3, 60, 26, 61, 28, 158, 0, 26]
abbrev dktX1_isPath_0 : List UInt8 := dkwX1_isPath_0 ++ dktX1_isPath_1
theorem dksX1_isPath_0 : cX1_isPath.data.toList.drop 0 = dktX1_isPath_0 := by decide +kernel
theorem dksX1_isPath_1 : cX1_isPath.data.toList.drop 24 = dktX1_isPath_1 := dk_seg dksX1_isPath_0 24 rfl rfl
theorem dksX1_isPath_2 : cX1_isPath.data.toList.drop 48 = dktX1_isPath_2 := dk_seg dksX1_isPath_1 24 rfl rfl
theorem dX1_isPath_0 : decode cX1_isPath 0 = .ok (.iload_n 0, 1) := dk_26 (dk_at dksX1_isPath_0 0 rfl rfl)
theorem dX1_isPath_1 : decode cX1_isPath 1 = .ok (.iconst 1, 1) := dk_4 (dk_at dksX1_isPath_0 1 rfl rfl)
theorem dX1_isPath_2 : decode cX1_isPath 2 = .ok (.if_icmp .lt 14, 3) := dk_161 0 14 (dk_at dksX1_isPath_0 2 rfl rfl)
theorem dX1_isPath_5 : decode cX1_isPath 5 = .ok (.iload_n 0, 1) := dk_26 (dk_at dksX1_isPath_0 5 rfl rfl)
theorem dX1_isPath_6 : decode cX1_isPath 6 = .ok (.sipush 999, 3) := dk_17 3 231 (dk_at dksX1_isPath_0 6 rfl rfl)
theorem dX1_isPath_9 : decode cX1_isPath 9 = .ok (.if_icmp .gt 7, 3) := dk_163 0 7 (dk_at dksX1_isPath_0 9 rfl rfl)
theorem dX1_isPath_12 : decode cX1_isPath 12 = .ok (.iconst 1, 1) := dk_4 (dk_at dksX1_isPath_0 12 rfl rfl)
theorem dX1_isPath_13 : decode cX1_isPath 13 = .ok (.goto 4, 3) := dk_167 0 4 (dk_at dksX1_isPath_0 13 rfl rfl)
theorem dX1_isPath_16 : decode cX1_isPath 16 = .ok (.iconst 0, 1) := dk_3 (dk_at dksX1_isPath_0 16 rfl rfl)
theorem dX1_isPath_17 : decode cX1_isPath 17 = .ok (.istore_n 1, 1) := dk_60 (dk_at dksX1_isPath_0 17 rfl rfl)
theorem dX1_isPath_18 : decode cX1_isPath 18 = .ok (.iload_n 0, 1) := dk_26 (dk_at dksX1_isPath_0 18 rfl rfl)
theorem dX1_isPath_19 : decode cX1_isPath 19 = .ok (.istore_n 2, 1) := dk_61 (dk_at dksX1_isPath_0 19 rfl rfl)
theorem dX1_isPath_20 : decode cX1_isPath 20 = .ok (.iload_n 2, 1) := dk_28 (dk_at dksX1_isPath_0 20 rfl rfl)
theorem dX1_isPath_21 : decode cX1_isPath 21 = .ok (.ifCond .le 26, 3) := dk_158 0 26 (dk_at dksX1_isPath_0 21 rfl rfl)
theorem dX1_isPath_24 : decode cX1_isPath 24 = .ok (.iload_n 1, 1) := dk_27 (dk_at dksX1_isPath_1 0 rfl rfl)
theorem dX1_isPath_25 : decode cX1_isPath 25 = .ok (.iload_n 2, 1) := dk_28 (dk_at dksX1_isPath_1 1 rfl rfl)
theorem dX1_isPath_26 : decode cX1_isPath 26 = .ok (.bipush 10, 2) := dk_16 10 (dk_at dksX1_isPath_1 2 rfl rfl)
theorem dX1_isPath_28 : decode cX1_isPath 28 = .ok (.irem, 1) := dk_112 (dk_at dksX1_isPath_1 4 rfl rfl)
theorem dX1_isPath_29 : decode cX1_isPath 29 = .ok (.ifCond .eq 7, 3) := dk_153 0 7 (dk_at dksX1_isPath_1 5 rfl rfl)
theorem dX1_isPath_32 : decode cX1_isPath 32 = .ok (.iconst 1, 1) := dk_4 (dk_at dksX1_isPath_1 8 rfl rfl)
theorem dX1_isPath_33 : decode cX1_isPath 33 = .ok (.goto 4, 3) := dk_167 0 4 (dk_at dksX1_isPath_1 9 rfl rfl)
theorem dX1_isPath_36 : decode cX1_isPath 36 = .ok (.iconst 0, 1) := dk_3 (dk_at dksX1_isPath_1 12 rfl rfl)
theorem dX1_isPath_37 : decode cX1_isPath 37 = .ok (.iand, 1) := dk_126 (dk_at dksX1_isPath_1 13 rfl rfl)
theorem dX1_isPath_38 : decode cX1_isPath 38 = .ok (.istore_n 1, 1) := dk_60 (dk_at dksX1_isPath_1 14 rfl rfl)
theorem dX1_isPath_39 : decode cX1_isPath 39 = .ok (.iload_n 2, 1) := dk_28 (dk_at dksX1_isPath_1 15 rfl rfl)
theorem dX1_isPath_40 : decode cX1_isPath 40 = .ok (.bipush 10, 2) := dk_16 10 (dk_at dksX1_isPath_1 16 rfl rfl)
theorem dX1_isPath_42 : decode cX1_isPath 42 = .ok (.idiv, 1) := dk_108 (dk_at dksX1_isPath_1 18 rfl rfl)
theorem dX1_isPath_43 : decode cX1_isPath 43 = .ok (.istore_n 2, 1) := dk_61 (dk_at dksX1_isPath_1 19 rfl rfl)
theorem dX1_isPath_44 : decode cX1_isPath 44 = .ok (.goto (-24), 3) := dk_167 255 232 (dk_at dksX1_isPath_1 20 rfl rfl)
theorem dX1_isPath_47 : decode cX1_isPath 47 = .ok (.iload_n 1, 1) := dk_27 (dk_at dksX1_isPath_1 23 rfl rfl)
theorem dX1_isPath_48 : decode cX1_isPath 48 = .ok (.ireturn, 1) := dk_172 (dk_at dksX1_isPath_2 0 rfl rfl)
abbrev cX1_check : ByteArray := prog_1_method_5_code
def yX1_check : MethodName := ⟨RX1, "check", "(III)V"⟩
def dkwX1_check_0 : List UInt8 := [26, 27, 161, 0, 8, 26, 28, 164, 0, 11, 187, 0, 92, 89, 183, 0, 94, 191, 177]
abbrev dktX1_check_0 : List UInt8 := dkwX1_check_0 ++ []
theorem dksX1_check_0 : cX1_check.data.toList.drop 0 = dktX1_check_0 := by decide +kernel
theorem dX1_check_0 : decode cX1_check 0 = .ok (.iload_n 0, 1) := dk_26 (dk_at dksX1_check_0 0 rfl rfl)
theorem dX1_check_1 : decode cX1_check 1 = .ok (.iload_n 1, 1) := dk_27 (dk_at dksX1_check_0 1 rfl rfl)
theorem dX1_check_2 : decode cX1_check 2 = .ok (.if_icmp .lt 8, 3) := dk_161 0 8 (dk_at dksX1_check_0 2 rfl rfl)
theorem dX1_check_5 : decode cX1_check 5 = .ok (.iload_n 0, 1) := dk_26 (dk_at dksX1_check_0 5 rfl rfl)
theorem dX1_check_6 : decode cX1_check 6 = .ok (.iload_n 2, 1) := dk_28 (dk_at dksX1_check_0 6 rfl rfl)
theorem dX1_check_7 : decode cX1_check 7 = .ok (.if_icmp .le 11, 3) := dk_164 0 11 (dk_at dksX1_check_0 7 rfl rfl)
theorem dX1_check_10 : decode cX1_check 10 = .ok (.new 92, 3) := dk_187 0 92 (dk_at dksX1_check_0 10 rfl rfl)
theorem dX1_check_13 : decode cX1_check 13 = .ok (.dup, 1) := dk_89 (dk_at dksX1_check_0 13 rfl rfl)
theorem dX1_check_14 : decode cX1_check 14 = .ok (.invokespecial 94, 3) := dk_183 0 94 (dk_at dksX1_check_0 14 rfl rfl)
theorem dX1_check_17 : decode cX1_check 17 = .ok (.athrow, 1) := dk_191 (dk_at dksX1_check_0 17 rfl rfl)
theorem dX1_check_18 : decode cX1_check 18 = .ok (.return_, 1) := dk_177 (dk_at dksX1_check_0 18 rfl rfl)
abbrev cX1_checkState : ByteArray := prog_1_method_7_code
def yX1_checkState : MethodName := ⟨RX1, "checkState", "(Z)V"⟩
def dkwX1_checkState_0 : List UInt8 := [26, 154, 0, 11, 187, 0, 99, 89, 183, 0, 101, 191, 177]
abbrev dktX1_checkState_0 : List UInt8 := dkwX1_checkState_0 ++ []
theorem dksX1_checkState_0 : cX1_checkState.data.toList.drop 0 = dktX1_checkState_0 := by decide +kernel
theorem dX1_checkState_0 : decode cX1_checkState 0 = .ok (.iload_n 0, 1) := dk_26 (dk_at dksX1_checkState_0 0 rfl rfl)
theorem dX1_checkState_1 : decode cX1_checkState 1 = .ok (.ifCond .ne 11, 3) := dk_154 0 11 (dk_at dksX1_checkState_0 1 rfl rfl)
theorem dX1_checkState_4 : decode cX1_checkState 4 = .ok (.new 99, 3) := dk_187 0 99 (dk_at dksX1_checkState_0 4 rfl rfl)
theorem dX1_checkState_7 : decode cX1_checkState 7 = .ok (.dup, 1) := dk_89 (dk_at dksX1_checkState_0 7 rfl rfl)
theorem dX1_checkState_8 : decode cX1_checkState 8 = .ok (.invokespecial 101, 3) := dk_183 0 101 (dk_at dksX1_checkState_0 8 rfl rfl)
theorem dX1_checkState_11 : decode cX1_checkState 11 = .ok (.athrow, 1) := dk_191 (dk_at dksX1_checkState_0 11 rfl rfl)
theorem dX1_checkState_12 : decode cX1_checkState 12 = .ok (.return_, 1) := dk_177 (dk_at dksX1_checkState_0 12 rfl rfl)
abbrev cX1_layer : ByteArray := prog_1_method_14_code
def yX1_layer : MethodName := ⟨RX1, "layer", "()I"⟩
def dkwX1_layer_1 : List UInt8 := [42, 180, 0, 16, 27, 182, 0, 158, 42, 180, 0, 16, 180, 0, 133, 185, 0, 162, 1, 0, 27, 172]
abbrev dktX1_layer_1 : List UInt8 := dkwX1_layer_1 ++ []
def dkwX1_layer_0 : List UInt8 := [42, 42, 180, 0, 16, 182, 0, 154, 60, 27, 16, 20, 162, 0, 7, 4, 167, 0, 4, 3, 184, 0, 136, 42]
abbrev dktX1_layer_0 : List UInt8 := dkwX1_layer_0 ++ dktX1_layer_1
theorem dksX1_layer_0 : cX1_layer.data.toList.drop 0 = dktX1_layer_0 := by decide +kernel
theorem dksX1_layer_1 : cX1_layer.data.toList.drop 24 = dktX1_layer_1 := dk_seg dksX1_layer_0 24 rfl rfl
theorem dX1_layer_0 : decode cX1_layer 0 = .ok (.aload_n 0, 1) := dk_42 (dk_at dksX1_layer_0 0 rfl rfl)
theorem dX1_layer_1 : decode cX1_layer 1 = .ok (.aload_n 0, 1) := dk_42 (dk_at dksX1_layer_0 1 rfl rfl)
theorem dX1_layer_2 : decode cX1_layer 2 = .ok (.getfield 16, 3) := dk_180 0 16 (dk_at dksX1_layer_0 2 rfl rfl)
theorem dX1_layer_5 : decode cX1_layer 5 = .ok (.invokevirtual 154, 3) := dk_182 0 154 (dk_at dksX1_layer_0 5 rfl rfl)
theorem dX1_layer_8 : decode cX1_layer 8 = .ok (.istore_n 1, 1) := dk_60 (dk_at dksX1_layer_0 8 rfl rfl)
theorem dX1_layer_9 : decode cX1_layer 9 = .ok (.iload_n 1, 1) := dk_27 (dk_at dksX1_layer_0 9 rfl rfl)
theorem dX1_layer_10 : decode cX1_layer 10 = .ok (.bipush 20, 2) := dk_16 20 (dk_at dksX1_layer_0 10 rfl rfl)
theorem dX1_layer_12 : decode cX1_layer 12 = .ok (.if_icmp .ge 7, 3) := dk_162 0 7 (dk_at dksX1_layer_0 12 rfl rfl)
theorem dX1_layer_15 : decode cX1_layer 15 = .ok (.iconst 1, 1) := dk_4 (dk_at dksX1_layer_0 15 rfl rfl)
theorem dX1_layer_16 : decode cX1_layer 16 = .ok (.goto 4, 3) := dk_167 0 4 (dk_at dksX1_layer_0 16 rfl rfl)
theorem dX1_layer_19 : decode cX1_layer 19 = .ok (.iconst 0, 1) := dk_3 (dk_at dksX1_layer_0 19 rfl rfl)
theorem dX1_layer_20 : decode cX1_layer 20 = .ok (.invokestatic 136, 3) := dk_184 0 136 (dk_at dksX1_layer_0 20 rfl rfl)
theorem dX1_layer_23 : decode cX1_layer 23 = .ok (.aload_n 0, 1) := dk_42 (dk_at dksX1_layer_0 23 rfl rfl)
theorem dX1_layer_24 : decode cX1_layer 24 = .ok (.aload_n 0, 1) := dk_42 (dk_at dksX1_layer_1 0 rfl rfl)
theorem dX1_layer_25 : decode cX1_layer 25 = .ok (.getfield 16, 3) := dk_180 0 16 (dk_at dksX1_layer_1 1 rfl rfl)
theorem dX1_layer_28 : decode cX1_layer 28 = .ok (.iload_n 1, 1) := dk_27 (dk_at dksX1_layer_1 4 rfl rfl)
theorem dX1_layer_29 : decode cX1_layer 29 = .ok (.invokevirtual 158, 3) := dk_182 0 158 (dk_at dksX1_layer_1 5 rfl rfl)
theorem dX1_layer_32 : decode cX1_layer 32 = .ok (.aload_n 0, 1) := dk_42 (dk_at dksX1_layer_1 8 rfl rfl)
theorem dX1_layer_33 : decode cX1_layer 33 = .ok (.getfield 16, 3) := dk_180 0 16 (dk_at dksX1_layer_1 9 rfl rfl)
theorem dX1_layer_36 : decode cX1_layer 36 = .ok (.getfield 133, 3) := dk_180 0 133 (dk_at dksX1_layer_1 12 rfl rfl)
theorem dX1_layer_39 : decode cX1_layer 39 = .ok (.invokeinterface 162 1, 5) := by decide +kernel
theorem dX1_layer_44 : decode cX1_layer 44 = .ok (.iload_n 1, 1) := dk_27 (dk_at dksX1_layer_1 20 rfl rfl)
theorem dX1_layer_45 : decode cX1_layer 45 = .ok (.ireturn, 1) := dk_172 (dk_at dksX1_layer_1 21 rfl rfl)
abbrev cX1_numberOf : ByteArray := prog_1_method_12_code
def yX1_numberOf : MethodName := ⟨RX1, "numberOf", "(LCrateDeck$Layer;)I"⟩
def dkwX1_numberOf_1 : List UInt8 := [185, 0, 109, 2, 0, 192, 0, 13, 43, 182, 0, 143, 154, 0, 9, 132, 2, 1, 167, 255, 220, 28, 172]
abbrev dktX1_numberOf_1 : List UInt8 := dkwX1_numberOf_1 ++ []
def dkwX1_numberOf_0 : List UInt8 := [3, 61, 28, 42, 180, 0, 23, 185, 0, 105, 1, 0, 162, 0, 29, 42, 180, 0, 23, 28]
abbrev dktX1_numberOf_0 : List UInt8 := dkwX1_numberOf_0 ++ dktX1_numberOf_1
theorem dksX1_numberOf_0 : cX1_numberOf.data.toList.drop 0 = dktX1_numberOf_0 := by decide +kernel
theorem dksX1_numberOf_1 : cX1_numberOf.data.toList.drop 20 = dktX1_numberOf_1 := dk_seg dksX1_numberOf_0 20 rfl rfl
theorem dX1_numberOf_0 : decode cX1_numberOf 0 = .ok (.iconst 0, 1) := dk_3 (dk_at dksX1_numberOf_0 0 rfl rfl)
theorem dX1_numberOf_1 : decode cX1_numberOf 1 = .ok (.istore_n 2, 1) := dk_61 (dk_at dksX1_numberOf_0 1 rfl rfl)
theorem dX1_numberOf_2 : decode cX1_numberOf 2 = .ok (.iload_n 2, 1) := dk_28 (dk_at dksX1_numberOf_0 2 rfl rfl)
theorem dX1_numberOf_3 : decode cX1_numberOf 3 = .ok (.aload_n 0, 1) := dk_42 (dk_at dksX1_numberOf_0 3 rfl rfl)
theorem dX1_numberOf_4 : decode cX1_numberOf 4 = .ok (.getfield 23, 3) := dk_180 0 23 (dk_at dksX1_numberOf_0 4 rfl rfl)
theorem dX1_numberOf_7 : decode cX1_numberOf 7 = .ok (.invokeinterface 105 1, 5) := by decide +kernel
theorem dX1_numberOf_12 : decode cX1_numberOf 12 = .ok (.if_icmp .ge 29, 3) := dk_162 0 29 (dk_at dksX1_numberOf_0 12 rfl rfl)
theorem dX1_numberOf_15 : decode cX1_numberOf 15 = .ok (.aload_n 0, 1) := dk_42 (dk_at dksX1_numberOf_0 15 rfl rfl)
theorem dX1_numberOf_16 : decode cX1_numberOf 16 = .ok (.getfield 23, 3) := dk_180 0 23 (dk_at dksX1_numberOf_0 16 rfl rfl)
theorem dX1_numberOf_19 : decode cX1_numberOf 19 = .ok (.iload_n 2, 1) := dk_28 (dk_at dksX1_numberOf_0 19 rfl rfl)
theorem dX1_numberOf_20 : decode cX1_numberOf 20 = .ok (.invokeinterface 109 2, 5) := by decide +kernel
theorem dX1_numberOf_25 : decode cX1_numberOf 25 = .ok (.checkcast 13, 3) := dk_192 0 13 (dk_at dksX1_numberOf_1 5 rfl rfl)
theorem dX1_numberOf_28 : decode cX1_numberOf 28 = .ok (.aload_n 1, 1) := dk_43 (dk_at dksX1_numberOf_1 8 rfl rfl)
theorem dX1_numberOf_29 : decode cX1_numberOf 29 = .ok (.invokevirtual 143, 3) := dk_182 0 143 (dk_at dksX1_numberOf_1 9 rfl rfl)
theorem dX1_numberOf_32 : decode cX1_numberOf 32 = .ok (.ifCond .ne 9, 3) := dk_154 0 9 (dk_at dksX1_numberOf_1 12 rfl rfl)
theorem dX1_numberOf_35 : decode cX1_numberOf 35 = .ok (.iinc 2 1, 3) := dk_132 2 1 (dk_at dksX1_numberOf_1 15 rfl rfl)
theorem dX1_numberOf_38 : decode cX1_numberOf 38 = .ok (.goto (-36), 3) := dk_167 255 220 (dk_at dksX1_numberOf_1 18 rfl rfl)
theorem dX1_numberOf_41 : decode cX1_numberOf 41 = .ok (.iload_n 2, 1) := dk_28 (dk_at dksX1_numberOf_1 21 rfl rfl)
theorem dX1_numberOf_42 : decode cX1_numberOf 42 = .ok (.ireturn, 1) := dk_172 (dk_at dksX1_numberOf_1 22 rfl rfl)
abbrev cX1_keep : ByteArray := prog_1_method_13_code
def yX1_keep : MethodName := ⟨RX1, "keep", "(LCrateDeck$Layer;I)V"⟩
def dkwX1_keep_2 : List UInt8 := [181, 0, 151, 177]
abbrev dktX1_keep_2 : List UInt8 := dkwX1_keep_2 ++ []
def dkwX1_keep_1 : List UInt8 := [182, 0, 147, 42, 180, 0, 23, 45, 185, 0, 76, 2, 0, 87, 42, 89, 180, 0, 151, 4, 28, 120, 128]
abbrev dktX1_keep_1 : List UInt8 := dkwX1_keep_1 ++ dktX1_keep_2
def dkwX1_keep_0 : List UInt8 := [28, 42, 180, 0, 23, 185, 0, 105, 1, 0, 160, 0, 27, 187, 0, 13, 89, 183, 0, 15, 78, 45, 43]
abbrev dktX1_keep_0 : List UInt8 := dkwX1_keep_0 ++ dktX1_keep_1
theorem dksX1_keep_0 : cX1_keep.data.toList.drop 0 = dktX1_keep_0 := by decide +kernel
theorem dksX1_keep_1 : cX1_keep.data.toList.drop 23 = dktX1_keep_1 := dk_seg dksX1_keep_0 23 rfl rfl
theorem dksX1_keep_2 : cX1_keep.data.toList.drop 46 = dktX1_keep_2 := dk_seg dksX1_keep_1 23 rfl rfl
theorem dX1_keep_0 : decode cX1_keep 0 = .ok (.iload_n 2, 1) := dk_28 (dk_at dksX1_keep_0 0 rfl rfl)
theorem dX1_keep_1 : decode cX1_keep 1 = .ok (.aload_n 0, 1) := dk_42 (dk_at dksX1_keep_0 1 rfl rfl)
theorem dX1_keep_2 : decode cX1_keep 2 = .ok (.getfield 23, 3) := dk_180 0 23 (dk_at dksX1_keep_0 2 rfl rfl)
theorem dX1_keep_5 : decode cX1_keep 5 = .ok (.invokeinterface 105 1, 5) := by decide +kernel
theorem dX1_keep_10 : decode cX1_keep 10 = .ok (.if_icmp .ne 27, 3) := dk_160 0 27 (dk_at dksX1_keep_0 10 rfl rfl)
theorem dX1_keep_13 : decode cX1_keep 13 = .ok (.new 13, 3) := dk_187 0 13 (dk_at dksX1_keep_0 13 rfl rfl)
theorem dX1_keep_16 : decode cX1_keep 16 = .ok (.dup, 1) := dk_89 (dk_at dksX1_keep_0 16 rfl rfl)
theorem dX1_keep_17 : decode cX1_keep 17 = .ok (.invokespecial 15, 3) := dk_183 0 15 (dk_at dksX1_keep_0 17 rfl rfl)
theorem dX1_keep_20 : decode cX1_keep 20 = .ok (.astore_n 3, 1) := dk_78 (dk_at dksX1_keep_0 20 rfl rfl)
theorem dX1_keep_21 : decode cX1_keep 21 = .ok (.aload_n 3, 1) := dk_45 (dk_at dksX1_keep_0 21 rfl rfl)
theorem dX1_keep_22 : decode cX1_keep 22 = .ok (.aload_n 1, 1) := dk_43 (dk_at dksX1_keep_0 22 rfl rfl)
theorem dX1_keep_23 : decode cX1_keep 23 = .ok (.invokevirtual 147, 3) := dk_182 0 147 (dk_at dksX1_keep_1 0 rfl rfl)
theorem dX1_keep_26 : decode cX1_keep 26 = .ok (.aload_n 0, 1) := dk_42 (dk_at dksX1_keep_1 3 rfl rfl)
theorem dX1_keep_27 : decode cX1_keep 27 = .ok (.getfield 23, 3) := dk_180 0 23 (dk_at dksX1_keep_1 4 rfl rfl)
theorem dX1_keep_30 : decode cX1_keep 30 = .ok (.aload_n 3, 1) := dk_45 (dk_at dksX1_keep_1 7 rfl rfl)
theorem dX1_keep_31 : decode cX1_keep 31 = .ok (.invokeinterface 76 2, 5) := by decide +kernel
theorem dX1_keep_36 : decode cX1_keep 36 = .ok (.pop, 1) := dk_87 (dk_at dksX1_keep_1 13 rfl rfl)
theorem dX1_keep_37 : decode cX1_keep 37 = .ok (.aload_n 0, 1) := dk_42 (dk_at dksX1_keep_1 14 rfl rfl)
theorem dX1_keep_38 : decode cX1_keep 38 = .ok (.dup, 1) := dk_89 (dk_at dksX1_keep_1 15 rfl rfl)
theorem dX1_keep_39 : decode cX1_keep 39 = .ok (.getfield 151, 3) := dk_180 0 151 (dk_at dksX1_keep_1 16 rfl rfl)
theorem dX1_keep_42 : decode cX1_keep 42 = .ok (.iconst 1, 1) := dk_4 (dk_at dksX1_keep_1 19 rfl rfl)
theorem dX1_keep_43 : decode cX1_keep 43 = .ok (.iload_n 2, 1) := dk_28 (dk_at dksX1_keep_1 20 rfl rfl)
theorem dX1_keep_44 : decode cX1_keep 44 = .ok (.ishl, 1) := dk_120 (dk_at dksX1_keep_1 21 rfl rfl)
theorem dX1_keep_45 : decode cX1_keep 45 = .ok (.ior, 1) := dk_128 (dk_at dksX1_keep_1 22 rfl rfl)
theorem dX1_keep_46 : decode cX1_keep 46 = .ok (.putfield 151, 3) := dk_181 0 151 (dk_at dksX1_keep_2 0 rfl rfl)
theorem dX1_keep_49 : decode cX1_keep 49 = .ok (.return_, 1) := dk_177 (dk_at dksX1_keep_2 3 rfl rfl)
abbrev cX1_image : ByteArray := prog_1_method_18_code
def yX1_image : MethodName := ⟨RX1, "image", "(II)I"⟩
def dkwX1_image_2 : List UInt8 := [182, 0, 195, 54, 4, 42, 29, 181, 0, 151, 21, 4, 172]
abbrev dktX1_image_2 : List UInt8 := dkwX1_image_2 ++ []
def dkwX1_image_1 : List UInt8 := [184, 0, 191, 42, 180, 0, 151, 62, 42, 27, 42, 180, 0, 23, 28, 185, 0, 109, 2, 0, 192, 0, 13, 28]
abbrev dktX1_image_1 : List UInt8 := dkwX1_image_1 ++ dktX1_image_2
def dkwX1_image_0 : List UInt8 := [27, 42, 180, 0, 27, 185, 0, 105, 1, 0, 184, 0, 191, 28, 42, 180, 0, 23, 185, 0, 105, 1, 0]
abbrev dktX1_image_0 : List UInt8 := dkwX1_image_0 ++ dktX1_image_1
theorem dksX1_image_0 : cX1_image.data.toList.drop 0 = dktX1_image_0 := by decide +kernel
theorem dksX1_image_1 : cX1_image.data.toList.drop 23 = dktX1_image_1 := dk_seg dksX1_image_0 23 rfl rfl
theorem dksX1_image_2 : cX1_image.data.toList.drop 47 = dktX1_image_2 := dk_seg dksX1_image_1 24 rfl rfl
theorem dX1_image_0 : decode cX1_image 0 = .ok (.iload_n 1, 1) := dk_27 (dk_at dksX1_image_0 0 rfl rfl)
theorem dX1_image_1 : decode cX1_image 1 = .ok (.aload_n 0, 1) := dk_42 (dk_at dksX1_image_0 1 rfl rfl)
theorem dX1_image_2 : decode cX1_image 2 = .ok (.getfield 27, 3) := dk_180 0 27 (dk_at dksX1_image_0 2 rfl rfl)
theorem dX1_image_5 : decode cX1_image 5 = .ok (.invokeinterface 105 1, 5) := by decide +kernel
theorem dX1_image_10 : decode cX1_image 10 = .ok (.invokestatic 191, 3) := dk_184 0 191 (dk_at dksX1_image_0 10 rfl rfl)
theorem dX1_image_13 : decode cX1_image 13 = .ok (.iload_n 2, 1) := dk_28 (dk_at dksX1_image_0 13 rfl rfl)
theorem dX1_image_14 : decode cX1_image 14 = .ok (.aload_n 0, 1) := dk_42 (dk_at dksX1_image_0 14 rfl rfl)
theorem dX1_image_15 : decode cX1_image 15 = .ok (.getfield 23, 3) := dk_180 0 23 (dk_at dksX1_image_0 15 rfl rfl)
theorem dX1_image_18 : decode cX1_image 18 = .ok (.invokeinterface 105 1, 5) := by decide +kernel
theorem dX1_image_23 : decode cX1_image 23 = .ok (.invokestatic 191, 3) := dk_184 0 191 (dk_at dksX1_image_1 0 rfl rfl)
theorem dX1_image_26 : decode cX1_image 26 = .ok (.aload_n 0, 1) := dk_42 (dk_at dksX1_image_1 3 rfl rfl)
theorem dX1_image_27 : decode cX1_image 27 = .ok (.getfield 151, 3) := dk_180 0 151 (dk_at dksX1_image_1 4 rfl rfl)
theorem dX1_image_30 : decode cX1_image 30 = .ok (.istore_n 3, 1) := dk_62 (dk_at dksX1_image_1 7 rfl rfl)
theorem dX1_image_31 : decode cX1_image 31 = .ok (.aload_n 0, 1) := dk_42 (dk_at dksX1_image_1 8 rfl rfl)
theorem dX1_image_32 : decode cX1_image 32 = .ok (.iload_n 1, 1) := dk_27 (dk_at dksX1_image_1 9 rfl rfl)
theorem dX1_image_33 : decode cX1_image 33 = .ok (.aload_n 0, 1) := dk_42 (dk_at dksX1_image_1 10 rfl rfl)
theorem dX1_image_34 : decode cX1_image 34 = .ok (.getfield 23, 3) := dk_180 0 23 (dk_at dksX1_image_1 11 rfl rfl)
theorem dX1_image_37 : decode cX1_image 37 = .ok (.iload_n 2, 1) := dk_28 (dk_at dksX1_image_1 14 rfl rfl)
theorem dX1_image_38 : decode cX1_image 38 = .ok (.invokeinterface 109 2, 5) := by decide +kernel
theorem dX1_image_43 : decode cX1_image 43 = .ok (.checkcast 13, 3) := dk_192 0 13 (dk_at dksX1_image_1 20 rfl rfl)
theorem dX1_image_46 : decode cX1_image 46 = .ok (.iload_n 2, 1) := dk_28 (dk_at dksX1_image_1 23 rfl rfl)
theorem dX1_image_47 : decode cX1_image 47 = .ok (.invokevirtual 195, 3) := dk_182 0 195 (dk_at dksX1_image_2 0 rfl rfl)
theorem dX1_image_50 : decode cX1_image 50 = .ok (.istore 4, 2) := dk_54 4 (dk_at dksX1_image_2 3 rfl rfl)
theorem dX1_image_52 : decode cX1_image 52 = .ok (.aload_n 0, 1) := dk_42 (dk_at dksX1_image_2 5 rfl rfl)
theorem dX1_image_53 : decode cX1_image 53 = .ok (.iload_n 3, 1) := dk_29 (dk_at dksX1_image_2 6 rfl rfl)
theorem dX1_image_54 : decode cX1_image 54 = .ok (.putfield 151, 3) := dk_181 0 151 (dk_at dksX1_image_2 7 rfl rfl)
theorem dX1_image_57 : decode cX1_image 57 = .ok (.iload 4, 2) := dk_21 4 (dk_at dksX1_image_2 10 rfl rfl)
theorem dX1_image_59 : decode cX1_image 59 = .ok (.ireturn, 1) := dk_172 (dk_at dksX1_image_2 12 rfl rfl)
abbrev cX1_checkThere : ByteArray := prog_1_method_8_code
def yX1_checkThere : MethodName := ⟨RX1, "checkThere", "(II)V"⟩
def dkwX1_checkThere_0 : List UInt8 := [26, 155, 0, 8, 26, 27, 161, 0, 11, 187, 0, 102, 89, 183, 0, 104, 191, 177]
abbrev dktX1_checkThere_0 : List UInt8 := dkwX1_checkThere_0 ++ []
theorem dksX1_checkThere_0 : cX1_checkThere.data.toList.drop 0 = dktX1_checkThere_0 := by decide +kernel
theorem dX1_checkThere_0 : decode cX1_checkThere 0 = .ok (.iload_n 0, 1) := dk_26 (dk_at dksX1_checkThere_0 0 rfl rfl)
theorem dX1_checkThere_1 : decode cX1_checkThere 1 = .ok (.ifCond .lt 8, 3) := dk_155 0 8 (dk_at dksX1_checkThere_0 1 rfl rfl)
theorem dX1_checkThere_4 : decode cX1_checkThere 4 = .ok (.iload_n 0, 1) := dk_26 (dk_at dksX1_checkThere_0 4 rfl rfl)
theorem dX1_checkThere_5 : decode cX1_checkThere 5 = .ok (.iload_n 1, 1) := dk_27 (dk_at dksX1_checkThere_0 5 rfl rfl)
theorem dX1_checkThere_6 : decode cX1_checkThere 6 = .ok (.if_icmp .lt 11, 3) := dk_161 0 11 (dk_at dksX1_checkThere_0 6 rfl rfl)
theorem dX1_checkThere_9 : decode cX1_checkThere 9 = .ok (.new 102, 3) := dk_187 0 102 (dk_at dksX1_checkThere_0 9 rfl rfl)
theorem dX1_checkThere_12 : decode cX1_checkThere 12 = .ok (.dup, 1) := dk_89 (dk_at dksX1_checkThere_0 12 rfl rfl)
theorem dX1_checkThere_13 : decode cX1_checkThere 13 = .ok (.invokespecial 104, 3) := dk_183 0 104 (dk_at dksX1_checkThere_0 13 rfl rfl)
theorem dX1_checkThere_16 : decode cX1_checkThere 16 = .ok (.athrow, 1) := dk_191 (dk_at dksX1_checkThere_0 16 rfl rfl)
theorem dX1_checkThere_17 : decode cX1_checkThere 17 = .ok (.return_, 1) := dk_177 (dk_at dksX1_checkThere_0 17 rfl rfl)
abbrev cX1_imageWith : ByteArray := prog_1_method_17_code
def yX1_imageWith : MethodName := ⟨RX1, "imageWith", "(ILCrateDeck$Layer;I)I"⟩
def dkwX1_imageWith_5 : List UInt8 := [25, 4, 185, 0, 187, 2, 0, 87, 21, 5, 172]
abbrev dktX1_imageWith_5 : List UInt8 := dkwX1_imageWith_5 ++ []
def dkwX1_imageWith_4 : List UInt8 := [185, 0, 76, 2, 0, 87, 42, 180, 0, 27, 21, 5, 185, 0, 109, 2, 0, 192, 0, 73, 180, 0, 165]
abbrev dktX1_imageWith_4 : List UInt8 := dkwX1_imageWith_4 ++ dktX1_imageWith_5
def dkwX1_imageWith_3 : List UInt8 := [180, 0, 27, 185, 0, 105, 1, 0, 160, 0, 45, 42, 180, 0, 27, 187, 0, 73, 89, 183, 0, 75]
abbrev dktX1_imageWith_3 : List UInt8 := dkwX1_imageWith_3 ++ dktX1_imageWith_4
def dkwX1_imageWith_2 : List UInt8 := [21, 5, 16, 12, 162, 0, 7, 4, 167, 0, 4, 3, 184, 0, 136, 42, 44, 29, 182, 0, 158, 21, 5, 42]
abbrev dktX1_imageWith_2 : List UInt8 := dkwX1_imageWith_2 ++ dktX1_imageWith_3
def dkwX1_imageWith_1 : List UInt8 := [180, 0, 27, 27, 185, 0, 109, 2, 0, 192, 0, 73, 180, 0, 165, 185, 0, 105, 1, 0, 8, 162, 0, 14]
abbrev dktX1_imageWith_1 : List UInt8 := dkwX1_imageWith_1 ++ dktX1_imageWith_2
def dkwX1_imageWith_0 : List UInt8 := [42, 27, 29, 182, 0, 180, 58, 4, 42, 25, 4, 182, 0, 184, 54, 5, 29, 16, 20, 162, 0, 39, 42]
abbrev dktX1_imageWith_0 : List UInt8 := dkwX1_imageWith_0 ++ dktX1_imageWith_1
theorem dksX1_imageWith_0 : cX1_imageWith.data.toList.drop 0 = dktX1_imageWith_0 := by decide +kernel
theorem dksX1_imageWith_1 : cX1_imageWith.data.toList.drop 23 = dktX1_imageWith_1 := dk_seg dksX1_imageWith_0 23 rfl rfl
theorem dksX1_imageWith_2 : cX1_imageWith.data.toList.drop 47 = dktX1_imageWith_2 := dk_seg dksX1_imageWith_1 24 rfl rfl
theorem dksX1_imageWith_3 : cX1_imageWith.data.toList.drop 71 = dktX1_imageWith_3 := dk_seg dksX1_imageWith_2 24 rfl rfl
theorem dksX1_imageWith_4 : cX1_imageWith.data.toList.drop 93 = dktX1_imageWith_4 := dk_seg dksX1_imageWith_3 22 rfl rfl
theorem dksX1_imageWith_5 : cX1_imageWith.data.toList.drop 116 = dktX1_imageWith_5 := dk_seg dksX1_imageWith_4 23 rfl rfl
theorem dX1_imageWith_0 : decode cX1_imageWith 0 = .ok (.aload_n 0, 1) := dk_42 (dk_at dksX1_imageWith_0 0 rfl rfl)
theorem dX1_imageWith_1 : decode cX1_imageWith 1 = .ok (.iload_n 1, 1) := dk_27 (dk_at dksX1_imageWith_0 1 rfl rfl)
theorem dX1_imageWith_2 : decode cX1_imageWith 2 = .ok (.iload_n 3, 1) := dk_29 (dk_at dksX1_imageWith_0 2 rfl rfl)
theorem dX1_imageWith_3 : decode cX1_imageWith 3 = .ok (.invokevirtual 180, 3) := dk_182 0 180 (dk_at dksX1_imageWith_0 3 rfl rfl)
theorem dX1_imageWith_6 : decode cX1_imageWith 6 = .ok (.astore 4, 2) := dk_58 4 (dk_at dksX1_imageWith_0 6 rfl rfl)
theorem dX1_imageWith_8 : decode cX1_imageWith 8 = .ok (.aload_n 0, 1) := dk_42 (dk_at dksX1_imageWith_0 8 rfl rfl)
theorem dX1_imageWith_9 : decode cX1_imageWith 9 = .ok (.aload 4, 2) := dk_25 4 (dk_at dksX1_imageWith_0 9 rfl rfl)
theorem dX1_imageWith_11 : decode cX1_imageWith 11 = .ok (.invokevirtual 184, 3) := dk_182 0 184 (dk_at dksX1_imageWith_0 11 rfl rfl)
theorem dX1_imageWith_14 : decode cX1_imageWith 14 = .ok (.istore 5, 2) := dk_54 5 (dk_at dksX1_imageWith_0 14 rfl rfl)
theorem dX1_imageWith_16 : decode cX1_imageWith 16 = .ok (.iload_n 3, 1) := dk_29 (dk_at dksX1_imageWith_0 16 rfl rfl)
theorem dX1_imageWith_17 : decode cX1_imageWith 17 = .ok (.bipush 20, 2) := dk_16 20 (dk_at dksX1_imageWith_0 17 rfl rfl)
theorem dX1_imageWith_19 : decode cX1_imageWith 19 = .ok (.if_icmp .ge 39, 3) := dk_162 0 39 (dk_at dksX1_imageWith_0 19 rfl rfl)
theorem dX1_imageWith_22 : decode cX1_imageWith 22 = .ok (.aload_n 0, 1) := dk_42 (dk_at dksX1_imageWith_0 22 rfl rfl)
theorem dX1_imageWith_23 : decode cX1_imageWith 23 = .ok (.getfield 27, 3) := dk_180 0 27 (dk_at dksX1_imageWith_1 0 rfl rfl)
theorem dX1_imageWith_26 : decode cX1_imageWith 26 = .ok (.iload_n 1, 1) := dk_27 (dk_at dksX1_imageWith_1 3 rfl rfl)
theorem dX1_imageWith_27 : decode cX1_imageWith 27 = .ok (.invokeinterface 109 2, 5) := by decide +kernel
theorem dX1_imageWith_32 : decode cX1_imageWith 32 = .ok (.checkcast 73, 3) := dk_192 0 73 (dk_at dksX1_imageWith_1 9 rfl rfl)
theorem dX1_imageWith_35 : decode cX1_imageWith 35 = .ok (.getfield 165, 3) := dk_180 0 165 (dk_at dksX1_imageWith_1 12 rfl rfl)
theorem dX1_imageWith_38 : decode cX1_imageWith 38 = .ok (.invokeinterface 105 1, 5) := by decide +kernel
theorem dX1_imageWith_43 : decode cX1_imageWith 43 = .ok (.iconst 5, 1) := dk_8 (dk_at dksX1_imageWith_1 20 rfl rfl)
theorem dX1_imageWith_44 : decode cX1_imageWith 44 = .ok (.if_icmp .ge 14, 3) := dk_162 0 14 (dk_at dksX1_imageWith_1 21 rfl rfl)
theorem dX1_imageWith_47 : decode cX1_imageWith 47 = .ok (.iload 5, 2) := dk_21 5 (dk_at dksX1_imageWith_2 0 rfl rfl)
theorem dX1_imageWith_49 : decode cX1_imageWith 49 = .ok (.bipush 12, 2) := dk_16 12 (dk_at dksX1_imageWith_2 2 rfl rfl)
theorem dX1_imageWith_51 : decode cX1_imageWith 51 = .ok (.if_icmp .ge 7, 3) := dk_162 0 7 (dk_at dksX1_imageWith_2 4 rfl rfl)
theorem dX1_imageWith_54 : decode cX1_imageWith 54 = .ok (.iconst 1, 1) := dk_4 (dk_at dksX1_imageWith_2 7 rfl rfl)
theorem dX1_imageWith_55 : decode cX1_imageWith 55 = .ok (.goto 4, 3) := dk_167 0 4 (dk_at dksX1_imageWith_2 8 rfl rfl)
theorem dX1_imageWith_58 : decode cX1_imageWith 58 = .ok (.iconst 0, 1) := dk_3 (dk_at dksX1_imageWith_2 11 rfl rfl)
theorem dX1_imageWith_59 : decode cX1_imageWith 59 = .ok (.invokestatic 136, 3) := dk_184 0 136 (dk_at dksX1_imageWith_2 12 rfl rfl)
theorem dX1_imageWith_62 : decode cX1_imageWith 62 = .ok (.aload_n 0, 1) := dk_42 (dk_at dksX1_imageWith_2 15 rfl rfl)
theorem dX1_imageWith_63 : decode cX1_imageWith 63 = .ok (.aload_n 2, 1) := dk_44 (dk_at dksX1_imageWith_2 16 rfl rfl)
theorem dX1_imageWith_64 : decode cX1_imageWith 64 = .ok (.iload_n 3, 1) := dk_29 (dk_at dksX1_imageWith_2 17 rfl rfl)
theorem dX1_imageWith_65 : decode cX1_imageWith 65 = .ok (.invokevirtual 158, 3) := dk_182 0 158 (dk_at dksX1_imageWith_2 18 rfl rfl)
theorem dX1_imageWith_68 : decode cX1_imageWith 68 = .ok (.iload 5, 2) := dk_21 5 (dk_at dksX1_imageWith_2 21 rfl rfl)
theorem dX1_imageWith_70 : decode cX1_imageWith 70 = .ok (.aload_n 0, 1) := dk_42 (dk_at dksX1_imageWith_2 23 rfl rfl)
theorem dX1_imageWith_71 : decode cX1_imageWith 71 = .ok (.getfield 27, 3) := dk_180 0 27 (dk_at dksX1_imageWith_3 0 rfl rfl)
theorem dX1_imageWith_74 : decode cX1_imageWith 74 = .ok (.invokeinterface 105 1, 5) := by decide +kernel
theorem dX1_imageWith_79 : decode cX1_imageWith 79 = .ok (.if_icmp .ne 45, 3) := dk_160 0 45 (dk_at dksX1_imageWith_3 8 rfl rfl)
theorem dX1_imageWith_82 : decode cX1_imageWith 82 = .ok (.aload_n 0, 1) := dk_42 (dk_at dksX1_imageWith_3 11 rfl rfl)
theorem dX1_imageWith_83 : decode cX1_imageWith 83 = .ok (.getfield 27, 3) := dk_180 0 27 (dk_at dksX1_imageWith_3 12 rfl rfl)
theorem dX1_imageWith_86 : decode cX1_imageWith 86 = .ok (.new 73, 3) := dk_187 0 73 (dk_at dksX1_imageWith_3 15 rfl rfl)
theorem dX1_imageWith_89 : decode cX1_imageWith 89 = .ok (.dup, 1) := dk_89 (dk_at dksX1_imageWith_3 18 rfl rfl)
theorem dX1_imageWith_90 : decode cX1_imageWith 90 = .ok (.invokespecial 75, 3) := dk_183 0 75 (dk_at dksX1_imageWith_3 19 rfl rfl)
theorem dX1_imageWith_93 : decode cX1_imageWith 93 = .ok (.invokeinterface 76 2, 5) := by decide +kernel
theorem dX1_imageWith_98 : decode cX1_imageWith 98 = .ok (.pop, 1) := dk_87 (dk_at dksX1_imageWith_4 5 rfl rfl)
theorem dX1_imageWith_99 : decode cX1_imageWith 99 = .ok (.aload_n 0, 1) := dk_42 (dk_at dksX1_imageWith_4 6 rfl rfl)
theorem dX1_imageWith_100 : decode cX1_imageWith 100 = .ok (.getfield 27, 3) := dk_180 0 27 (dk_at dksX1_imageWith_4 7 rfl rfl)
theorem dX1_imageWith_103 : decode cX1_imageWith 103 = .ok (.iload 5, 2) := dk_21 5 (dk_at dksX1_imageWith_4 10 rfl rfl)
theorem dX1_imageWith_105 : decode cX1_imageWith 105 = .ok (.invokeinterface 109 2, 5) := by decide +kernel
theorem dX1_imageWith_110 : decode cX1_imageWith 110 = .ok (.checkcast 73, 3) := dk_192 0 73 (dk_at dksX1_imageWith_4 17 rfl rfl)
theorem dX1_imageWith_113 : decode cX1_imageWith 113 = .ok (.getfield 165, 3) := dk_180 0 165 (dk_at dksX1_imageWith_4 20 rfl rfl)
theorem dX1_imageWith_116 : decode cX1_imageWith 116 = .ok (.aload 4, 2) := dk_25 4 (dk_at dksX1_imageWith_5 0 rfl rfl)
theorem dX1_imageWith_118 : decode cX1_imageWith 118 = .ok (.invokeinterface 187 2, 5) := by decide +kernel
theorem dX1_imageWith_123 : decode cX1_imageWith 123 = .ok (.pop, 1) := dk_87 (dk_at dksX1_imageWith_5 7 rfl rfl)
theorem dX1_imageWith_124 : decode cX1_imageWith 124 = .ok (.iload 5, 2) := dk_21 5 (dk_at dksX1_imageWith_5 8 rfl rfl)
theorem dX1_imageWith_126 : decode cX1_imageWith 126 = .ok (.ireturn, 1) := dk_172 (dk_at dksX1_imageWith_5 10 rfl rfl)
abbrev cX1_rowWith : ByteArray := prog_1_method_15_code
def yX1_rowWith : MethodName := ⟨RX1, "rowWith", "(II)Ljava/util/List;"⟩
def dkwX1_rowWith_1 : List UInt8 := [45, 28, 184, 0, 171, 185, 0, 76, 2, 0, 87, 45, 176]
abbrev dktX1_rowWith_1 : List UInt8 := dkwX1_rowWith_1 ++ []
def dkwX1_rowWith_0 : List UInt8 := [187, 0, 20, 89, 42, 180, 0, 27, 27, 185, 0, 109, 2, 0, 192, 0, 73, 180, 0, 165, 183, 0, 168, 78]
abbrev dktX1_rowWith_0 : List UInt8 := dkwX1_rowWith_0 ++ dktX1_rowWith_1
theorem dksX1_rowWith_0 : cX1_rowWith.data.toList.drop 0 = dktX1_rowWith_0 := by decide +kernel
theorem dksX1_rowWith_1 : cX1_rowWith.data.toList.drop 24 = dktX1_rowWith_1 := dk_seg dksX1_rowWith_0 24 rfl rfl
theorem dX1_rowWith_0 : decode cX1_rowWith 0 = .ok (.new 20, 3) := dk_187 0 20 (dk_at dksX1_rowWith_0 0 rfl rfl)
theorem dX1_rowWith_3 : decode cX1_rowWith 3 = .ok (.dup, 1) := dk_89 (dk_at dksX1_rowWith_0 3 rfl rfl)
theorem dX1_rowWith_4 : decode cX1_rowWith 4 = .ok (.aload_n 0, 1) := dk_42 (dk_at dksX1_rowWith_0 4 rfl rfl)
theorem dX1_rowWith_5 : decode cX1_rowWith 5 = .ok (.getfield 27, 3) := dk_180 0 27 (dk_at dksX1_rowWith_0 5 rfl rfl)
theorem dX1_rowWith_8 : decode cX1_rowWith 8 = .ok (.iload_n 1, 1) := dk_27 (dk_at dksX1_rowWith_0 8 rfl rfl)
theorem dX1_rowWith_9 : decode cX1_rowWith 9 = .ok (.invokeinterface 109 2, 5) := by decide +kernel
theorem dX1_rowWith_14 : decode cX1_rowWith 14 = .ok (.checkcast 73, 3) := dk_192 0 73 (dk_at dksX1_rowWith_0 14 rfl rfl)
theorem dX1_rowWith_17 : decode cX1_rowWith 17 = .ok (.getfield 165, 3) := dk_180 0 165 (dk_at dksX1_rowWith_0 17 rfl rfl)
theorem dX1_rowWith_20 : decode cX1_rowWith 20 = .ok (.invokespecial 168, 3) := dk_183 0 168 (dk_at dksX1_rowWith_0 20 rfl rfl)
theorem dX1_rowWith_23 : decode cX1_rowWith 23 = .ok (.astore_n 3, 1) := dk_78 (dk_at dksX1_rowWith_0 23 rfl rfl)
theorem dX1_rowWith_24 : decode cX1_rowWith 24 = .ok (.aload_n 3, 1) := dk_45 (dk_at dksX1_rowWith_1 0 rfl rfl)
theorem dX1_rowWith_25 : decode cX1_rowWith 25 = .ok (.iload_n 2, 1) := dk_28 (dk_at dksX1_rowWith_1 1 rfl rfl)
theorem dX1_rowWith_26 : decode cX1_rowWith 26 = .ok (.invokestatic 171, 3) := dk_184 0 171 (dk_at dksX1_rowWith_1 2 rfl rfl)
theorem dX1_rowWith_29 : decode cX1_rowWith 29 = .ok (.invokeinterface 76 2, 5) := by decide +kernel
theorem dX1_rowWith_34 : decode cX1_rowWith 34 = .ok (.pop, 1) := dk_87 (dk_at dksX1_rowWith_1 10 rfl rfl)
theorem dX1_rowWith_35 : decode cX1_rowWith 35 = .ok (.aload_n 3, 1) := dk_45 (dk_at dksX1_rowWith_1 11 rfl rfl)
theorem dX1_rowWith_36 : decode cX1_rowWith 36 = .ok (.areturn, 1) := dk_176 (dk_at dksX1_rowWith_1 12 rfl rfl)
abbrev cX1_numberOf_2 : ByteArray := prog_1_method_16_code
def yX1_numberOf_2 : MethodName := ⟨RX1, "numberOf", "(Ljava/util/List;)I"⟩
def dkwX1_numberOf_2_1 : List UInt8 := [185, 0, 109, 2, 0, 192, 0, 73, 43, 182, 0, 177, 154, 0, 9, 132, 2, 1, 167, 255, 220, 28, 172]
abbrev dktX1_numberOf_2_1 : List UInt8 := dkwX1_numberOf_2_1 ++ []
def dkwX1_numberOf_2_0 : List UInt8 := [3, 61, 28, 42, 180, 0, 27, 185, 0, 105, 1, 0, 162, 0, 29, 42, 180, 0, 27, 28]
abbrev dktX1_numberOf_2_0 : List UInt8 := dkwX1_numberOf_2_0 ++ dktX1_numberOf_2_1
theorem dksX1_numberOf_2_0 : cX1_numberOf_2.data.toList.drop 0 = dktX1_numberOf_2_0 := by decide +kernel
theorem dksX1_numberOf_2_1 : cX1_numberOf_2.data.toList.drop 20 = dktX1_numberOf_2_1 := dk_seg dksX1_numberOf_2_0 20 rfl rfl
theorem dX1_numberOf_2_0 : decode cX1_numberOf_2 0 = .ok (.iconst 0, 1) := dk_3 (dk_at dksX1_numberOf_2_0 0 rfl rfl)
theorem dX1_numberOf_2_1 : decode cX1_numberOf_2 1 = .ok (.istore_n 2, 1) := dk_61 (dk_at dksX1_numberOf_2_0 1 rfl rfl)
theorem dX1_numberOf_2_2 : decode cX1_numberOf_2 2 = .ok (.iload_n 2, 1) := dk_28 (dk_at dksX1_numberOf_2_0 2 rfl rfl)
theorem dX1_numberOf_2_3 : decode cX1_numberOf_2 3 = .ok (.aload_n 0, 1) := dk_42 (dk_at dksX1_numberOf_2_0 3 rfl rfl)
theorem dX1_numberOf_2_4 : decode cX1_numberOf_2 4 = .ok (.getfield 27, 3) := dk_180 0 27 (dk_at dksX1_numberOf_2_0 4 rfl rfl)
theorem dX1_numberOf_2_7 : decode cX1_numberOf_2 7 = .ok (.invokeinterface 105 1, 5) := by decide +kernel
theorem dX1_numberOf_2_12 : decode cX1_numberOf_2 12 = .ok (.if_icmp .ge 29, 3) := dk_162 0 29 (dk_at dksX1_numberOf_2_0 12 rfl rfl)
theorem dX1_numberOf_2_15 : decode cX1_numberOf_2 15 = .ok (.aload_n 0, 1) := dk_42 (dk_at dksX1_numberOf_2_0 15 rfl rfl)
theorem dX1_numberOf_2_16 : decode cX1_numberOf_2 16 = .ok (.getfield 27, 3) := dk_180 0 27 (dk_at dksX1_numberOf_2_0 16 rfl rfl)
theorem dX1_numberOf_2_19 : decode cX1_numberOf_2 19 = .ok (.iload_n 2, 1) := dk_28 (dk_at dksX1_numberOf_2_0 19 rfl rfl)
theorem dX1_numberOf_2_20 : decode cX1_numberOf_2 20 = .ok (.invokeinterface 109 2, 5) := by decide +kernel
theorem dX1_numberOf_2_25 : decode cX1_numberOf_2 25 = .ok (.checkcast 73, 3) := dk_192 0 73 (dk_at dksX1_numberOf_2_1 5 rfl rfl)
theorem dX1_numberOf_2_28 : decode cX1_numberOf_2 28 = .ok (.aload_n 1, 1) := dk_43 (dk_at dksX1_numberOf_2_1 8 rfl rfl)
theorem dX1_numberOf_2_29 : decode cX1_numberOf_2 29 = .ok (.invokevirtual 177, 3) := dk_182 0 177 (dk_at dksX1_numberOf_2_1 9 rfl rfl)
theorem dX1_numberOf_2_32 : decode cX1_numberOf_2 32 = .ok (.ifCond .ne 9, 3) := dk_154 0 9 (dk_at dksX1_numberOf_2_1 12 rfl rfl)
theorem dX1_numberOf_2_35 : decode cX1_numberOf_2 35 = .ok (.iinc 2 1, 3) := dk_132 2 1 (dk_at dksX1_numberOf_2_1 15 rfl rfl)
theorem dX1_numberOf_2_38 : decode cX1_numberOf_2 38 = .ok (.goto (-36), 3) := dk_167 255 220 (dk_at dksX1_numberOf_2_1 18 rfl rfl)
theorem dX1_numberOf_2_41 : decode cX1_numberOf_2 41 = .ok (.iload_n 2, 1) := dk_28 (dk_at dksX1_numberOf_2_1 21 rfl rfl)
theorem dX1_numberOf_2_42 : decode cX1_numberOf_2 42 = .ok (.ireturn, 1) := dk_172 (dk_at dksX1_numberOf_2_1 22 rfl rfl)
abbrev cX1_shows : ByteArray := prog_1_method_20_code
def yX1_shows : MethodName := ⟨RX1, "shows", "(II)I"⟩
def dkwX1_shows_1 : List UInt8 := [182, 0, 203, 42, 180, 0, 62, 28, 182, 0, 207, 172]
abbrev dktX1_shows_1 : List UInt8 := dkwX1_shows_1 ++ []
def dkwX1_shows_0 : List UInt8 := [27, 42, 180, 0, 27, 185, 0, 105, 1, 0, 184, 0, 191, 28, 184, 0, 122, 42, 42, 180, 0, 62, 27]
abbrev dktX1_shows_0 : List UInt8 := dkwX1_shows_0 ++ dktX1_shows_1
theorem dksX1_shows_0 : cX1_shows.data.toList.drop 0 = dktX1_shows_0 := by decide +kernel
theorem dksX1_shows_1 : cX1_shows.data.toList.drop 23 = dktX1_shows_1 := dk_seg dksX1_shows_0 23 rfl rfl
theorem dX1_shows_0 : decode cX1_shows 0 = .ok (.iload_n 1, 1) := dk_27 (dk_at dksX1_shows_0 0 rfl rfl)
theorem dX1_shows_1 : decode cX1_shows 1 = .ok (.aload_n 0, 1) := dk_42 (dk_at dksX1_shows_0 1 rfl rfl)
theorem dX1_shows_2 : decode cX1_shows 2 = .ok (.getfield 27, 3) := dk_180 0 27 (dk_at dksX1_shows_0 2 rfl rfl)
theorem dX1_shows_5 : decode cX1_shows 5 = .ok (.invokeinterface 105 1, 5) := by decide +kernel
theorem dX1_shows_10 : decode cX1_shows 10 = .ok (.invokestatic 191, 3) := dk_184 0 191 (dk_at dksX1_shows_0 10 rfl rfl)
theorem dX1_shows_13 : decode cX1_shows 13 = .ok (.iload_n 2, 1) := dk_28 (dk_at dksX1_shows_0 13 rfl rfl)
theorem dX1_shows_14 : decode cX1_shows 14 = .ok (.invokestatic 122, 3) := dk_184 0 122 (dk_at dksX1_shows_0 14 rfl rfl)
theorem dX1_shows_17 : decode cX1_shows 17 = .ok (.aload_n 0, 1) := dk_42 (dk_at dksX1_shows_0 17 rfl rfl)
theorem dX1_shows_18 : decode cX1_shows 18 = .ok (.aload_n 0, 1) := dk_42 (dk_at dksX1_shows_0 18 rfl rfl)
theorem dX1_shows_19 : decode cX1_shows 19 = .ok (.getfield 62, 3) := dk_180 0 62 (dk_at dksX1_shows_0 19 rfl rfl)
theorem dX1_shows_22 : decode cX1_shows 22 = .ok (.iload_n 1, 1) := dk_27 (dk_at dksX1_shows_0 22 rfl rfl)
theorem dX1_shows_23 : decode cX1_shows 23 = .ok (.invokevirtual 203, 3) := dk_182 0 203 (dk_at dksX1_shows_1 0 rfl rfl)
theorem dX1_shows_26 : decode cX1_shows 26 = .ok (.aload_n 0, 1) := dk_42 (dk_at dksX1_shows_1 3 rfl rfl)
theorem dX1_shows_27 : decode cX1_shows 27 = .ok (.getfield 62, 3) := dk_180 0 62 (dk_at dksX1_shows_1 4 rfl rfl)
theorem dX1_shows_30 : decode cX1_shows 30 = .ok (.iload_n 2, 1) := dk_28 (dk_at dksX1_shows_1 7 rfl rfl)
theorem dX1_shows_31 : decode cX1_shows 31 = .ok (.invokevirtual 207, 3) := dk_182 0 207 (dk_at dksX1_shows_1 8 rfl rfl)
theorem dX1_shows_34 : decode cX1_shows 34 = .ok (.ireturn, 1) := dk_172 (dk_at dksX1_shows_1 11 rfl rfl)
abbrev cX1_layTree : ByteArray := prog_1_method_19_code
def yX1_layTree : MethodName := ⟨RX1, "layTree", "(LCrateDeck$Tree;I)V"⟩
def dkwX1_layTree_3 : List UInt8 := [192, 0, 13, 185, 0, 76, 2, 0, 87, 132, 4, 1, 167, 255, 206, 177]
abbrev dktX1_layTree_3 : List UInt8 := dkwX1_layTree_3 ++ []
def dkwX1_layTree_2 : List UInt8 := [180, 0, 23, 45, 21, 4, 185, 0, 109, 2, 0, 192, 0, 172, 182, 0, 200, 185, 0, 109, 2, 0]
abbrev dktX1_layTree_2 : List UInt8 := dkwX1_layTree_2 ++ dktX1_layTree_3
def dkwX1_layTree_1 : List UInt8 := [180, 0, 165, 78, 3, 54, 4, 21, 4, 45, 185, 0, 105, 1, 0, 162, 0, 45, 43, 180, 0, 199, 42]
abbrev dktX1_layTree_1 : List UInt8 := dkwX1_layTree_1 ++ dktX1_layTree_2
def dkwX1_layTree_0 : List UInt8 := [43, 180, 0, 199, 185, 0, 162, 1, 0, 42, 180, 0, 27, 28, 185, 0, 109, 2, 0, 192, 0, 73]
abbrev dktX1_layTree_0 : List UInt8 := dkwX1_layTree_0 ++ dktX1_layTree_1
theorem dksX1_layTree_0 : cX1_layTree.data.toList.drop 0 = dktX1_layTree_0 := by decide +kernel
theorem dksX1_layTree_1 : cX1_layTree.data.toList.drop 22 = dktX1_layTree_1 := dk_seg dksX1_layTree_0 22 rfl rfl
theorem dksX1_layTree_2 : cX1_layTree.data.toList.drop 45 = dktX1_layTree_2 := dk_seg dksX1_layTree_1 23 rfl rfl
theorem dksX1_layTree_3 : cX1_layTree.data.toList.drop 67 = dktX1_layTree_3 := dk_seg dksX1_layTree_2 22 rfl rfl
theorem dX1_layTree_0 : decode cX1_layTree 0 = .ok (.aload_n 1, 1) := dk_43 (dk_at dksX1_layTree_0 0 rfl rfl)
theorem dX1_layTree_1 : decode cX1_layTree 1 = .ok (.getfield 199, 3) := dk_180 0 199 (dk_at dksX1_layTree_0 1 rfl rfl)
theorem dX1_layTree_4 : decode cX1_layTree 4 = .ok (.invokeinterface 162 1, 5) := by decide +kernel
theorem dX1_layTree_9 : decode cX1_layTree 9 = .ok (.aload_n 0, 1) := dk_42 (dk_at dksX1_layTree_0 9 rfl rfl)
theorem dX1_layTree_10 : decode cX1_layTree 10 = .ok (.getfield 27, 3) := dk_180 0 27 (dk_at dksX1_layTree_0 10 rfl rfl)
theorem dX1_layTree_13 : decode cX1_layTree 13 = .ok (.iload_n 2, 1) := dk_28 (dk_at dksX1_layTree_0 13 rfl rfl)
theorem dX1_layTree_14 : decode cX1_layTree 14 = .ok (.invokeinterface 109 2, 5) := by decide +kernel
theorem dX1_layTree_19 : decode cX1_layTree 19 = .ok (.checkcast 73, 3) := dk_192 0 73 (dk_at dksX1_layTree_0 19 rfl rfl)
theorem dX1_layTree_22 : decode cX1_layTree 22 = .ok (.getfield 165, 3) := dk_180 0 165 (dk_at dksX1_layTree_1 0 rfl rfl)
theorem dX1_layTree_25 : decode cX1_layTree 25 = .ok (.astore_n 3, 1) := dk_78 (dk_at dksX1_layTree_1 3 rfl rfl)
theorem dX1_layTree_26 : decode cX1_layTree 26 = .ok (.iconst 0, 1) := dk_3 (dk_at dksX1_layTree_1 4 rfl rfl)
theorem dX1_layTree_27 : decode cX1_layTree 27 = .ok (.istore 4, 2) := dk_54 4 (dk_at dksX1_layTree_1 5 rfl rfl)
theorem dX1_layTree_29 : decode cX1_layTree 29 = .ok (.iload 4, 2) := dk_21 4 (dk_at dksX1_layTree_1 7 rfl rfl)
theorem dX1_layTree_31 : decode cX1_layTree 31 = .ok (.aload_n 3, 1) := dk_45 (dk_at dksX1_layTree_1 9 rfl rfl)
theorem dX1_layTree_32 : decode cX1_layTree 32 = .ok (.invokeinterface 105 1, 5) := by decide +kernel
theorem dX1_layTree_37 : decode cX1_layTree 37 = .ok (.if_icmp .ge 45, 3) := dk_162 0 45 (dk_at dksX1_layTree_1 15 rfl rfl)
theorem dX1_layTree_40 : decode cX1_layTree 40 = .ok (.aload_n 1, 1) := dk_43 (dk_at dksX1_layTree_1 18 rfl rfl)
theorem dX1_layTree_41 : decode cX1_layTree 41 = .ok (.getfield 199, 3) := dk_180 0 199 (dk_at dksX1_layTree_1 19 rfl rfl)
theorem dX1_layTree_44 : decode cX1_layTree 44 = .ok (.aload_n 0, 1) := dk_42 (dk_at dksX1_layTree_1 22 rfl rfl)
theorem dX1_layTree_45 : decode cX1_layTree 45 = .ok (.getfield 23, 3) := dk_180 0 23 (dk_at dksX1_layTree_2 0 rfl rfl)
theorem dX1_layTree_48 : decode cX1_layTree 48 = .ok (.aload_n 3, 1) := dk_45 (dk_at dksX1_layTree_2 3 rfl rfl)
theorem dX1_layTree_49 : decode cX1_layTree 49 = .ok (.iload 4, 2) := dk_21 4 (dk_at dksX1_layTree_2 4 rfl rfl)
theorem dX1_layTree_51 : decode cX1_layTree 51 = .ok (.invokeinterface 109 2, 5) := by decide +kernel
theorem dX1_layTree_56 : decode cX1_layTree 56 = .ok (.checkcast 172, 3) := dk_192 0 172 (dk_at dksX1_layTree_2 11 rfl rfl)
theorem dX1_layTree_59 : decode cX1_layTree 59 = .ok (.invokevirtual 200, 3) := dk_182 0 200 (dk_at dksX1_layTree_2 14 rfl rfl)
theorem dX1_layTree_62 : decode cX1_layTree 62 = .ok (.invokeinterface 109 2, 5) := by decide +kernel
theorem dX1_layTree_67 : decode cX1_layTree 67 = .ok (.checkcast 13, 3) := dk_192 0 13 (dk_at dksX1_layTree_3 0 rfl rfl)
theorem dX1_layTree_70 : decode cX1_layTree 70 = .ok (.invokeinterface 76 2, 5) := by decide +kernel
theorem dX1_layTree_75 : decode cX1_layTree 75 = .ok (.pop, 1) := dk_87 (dk_at dksX1_layTree_3 8 rfl rfl)
theorem dX1_layTree_76 : decode cX1_layTree 76 = .ok (.iinc 4 1, 3) := dk_132 4 1 (dk_at dksX1_layTree_3 9 rfl rfl)
theorem dX1_layTree_79 : decode cX1_layTree 79 = .ok (.goto (-50), 3) := dk_167 255 206 (dk_at dksX1_layTree_3 12 rfl rfl)
theorem dX1_layTree_82 : decode cX1_layTree 82 = .ok (.return_, 1) := dk_177 (dk_at dksX1_layTree_3 15 rfl rfl)
abbrev cX1_isWithin : ByteArray := prog_1_method_3_code
def yX1_isWithin : MethodName := ⟨RX1, "isWithin", "(II)Z"⟩
def dkwX1_isWithin_1 : List UInt8 := [160, 0, 7, 4, 167, 0, 4, 3, 172]
abbrev dktX1_isWithin_1 : List UInt8 := dkwX1_isWithin_1 ++ []
def dkwX1_isWithin_0 : List UInt8 := [26, 61, 28, 184, 0, 3, 27, 184, 0, 3, 164, 0, 11, 28, 16, 10, 108, 61, 167, 255, 240, 28, 27]
abbrev dktX1_isWithin_0 : List UInt8 := dkwX1_isWithin_0 ++ dktX1_isWithin_1
theorem dksX1_isWithin_0 : cX1_isWithin.data.toList.drop 0 = dktX1_isWithin_0 := by decide +kernel
theorem dksX1_isWithin_1 : cX1_isWithin.data.toList.drop 23 = dktX1_isWithin_1 := dk_seg dksX1_isWithin_0 23 rfl rfl
theorem dX1_isWithin_0 : decode cX1_isWithin 0 = .ok (.iload_n 0, 1) := dk_26 (dk_at dksX1_isWithin_0 0 rfl rfl)
theorem dX1_isWithin_1 : decode cX1_isWithin 1 = .ok (.istore_n 2, 1) := dk_61 (dk_at dksX1_isWithin_0 1 rfl rfl)
theorem dX1_isWithin_2 : decode cX1_isWithin 2 = .ok (.iload_n 2, 1) := dk_28 (dk_at dksX1_isWithin_0 2 rfl rfl)
theorem dX1_isWithin_3 : decode cX1_isWithin 3 = .ok (.invokestatic 3, 3) := dk_184 0 3 (dk_at dksX1_isWithin_0 3 rfl rfl)
theorem dX1_isWithin_6 : decode cX1_isWithin 6 = .ok (.iload_n 1, 1) := dk_27 (dk_at dksX1_isWithin_0 6 rfl rfl)
theorem dX1_isWithin_7 : decode cX1_isWithin 7 = .ok (.invokestatic 3, 3) := dk_184 0 3 (dk_at dksX1_isWithin_0 7 rfl rfl)
theorem dX1_isWithin_10 : decode cX1_isWithin 10 = .ok (.if_icmp .le 11, 3) := dk_164 0 11 (dk_at dksX1_isWithin_0 10 rfl rfl)
theorem dX1_isWithin_13 : decode cX1_isWithin 13 = .ok (.iload_n 2, 1) := dk_28 (dk_at dksX1_isWithin_0 13 rfl rfl)
theorem dX1_isWithin_14 : decode cX1_isWithin 14 = .ok (.bipush 10, 2) := dk_16 10 (dk_at dksX1_isWithin_0 14 rfl rfl)
theorem dX1_isWithin_16 : decode cX1_isWithin 16 = .ok (.idiv, 1) := dk_108 (dk_at dksX1_isWithin_0 16 rfl rfl)
theorem dX1_isWithin_17 : decode cX1_isWithin 17 = .ok (.istore_n 2, 1) := dk_61 (dk_at dksX1_isWithin_0 17 rfl rfl)
theorem dX1_isWithin_18 : decode cX1_isWithin 18 = .ok (.goto (-16), 3) := dk_167 255 240 (dk_at dksX1_isWithin_0 18 rfl rfl)
theorem dX1_isWithin_21 : decode cX1_isWithin 21 = .ok (.iload_n 2, 1) := dk_28 (dk_at dksX1_isWithin_0 21 rfl rfl)
theorem dX1_isWithin_22 : decode cX1_isWithin 22 = .ok (.iload_n 1, 1) := dk_27 (dk_at dksX1_isWithin_0 22 rfl rfl)
theorem dX1_isWithin_23 : decode cX1_isWithin 23 = .ok (.if_icmp .ne 7, 3) := dk_160 0 7 (dk_at dksX1_isWithin_1 0 rfl rfl)
theorem dX1_isWithin_26 : decode cX1_isWithin 26 = .ok (.iconst 1, 1) := dk_4 (dk_at dksX1_isWithin_1 3 rfl rfl)
theorem dX1_isWithin_27 : decode cX1_isWithin 27 = .ok (.goto 4, 3) := dk_167 0 4 (dk_at dksX1_isWithin_1 4 rfl rfl)
theorem dX1_isWithin_30 : decode cX1_isWithin 30 = .ok (.iconst 0, 1) := dk_3 (dk_at dksX1_isWithin_1 7 rfl rfl)
theorem dX1_isWithin_31 : decode cX1_isWithin 31 = .ok (.ireturn, 1) := dk_172 (dk_at dksX1_isWithin_1 8 rfl rfl)
abbrev cX1_digits : ByteArray := prog_1_method_2_code
def yX1_digits : MethodName := ⟨RX1, "digits", "(I)I"⟩
def dkwX1_digits_1 : List UInt8 := [5, 167, 0, 4, 6, 172]
abbrev dktX1_digits_1 : List UInt8 := dkwX1_digits_1 ++ []
def dkwX1_digits_0 : List UInt8 := [26, 154, 0, 7, 3, 167, 0, 24, 26, 16, 10, 162, 0, 7, 4, 167, 0, 14, 26, 16, 100, 162, 0, 7]
abbrev dktX1_digits_0 : List UInt8 := dkwX1_digits_0 ++ dktX1_digits_1
theorem dksX1_digits_0 : cX1_digits.data.toList.drop 0 = dktX1_digits_0 := by decide +kernel
theorem dksX1_digits_1 : cX1_digits.data.toList.drop 24 = dktX1_digits_1 := dk_seg dksX1_digits_0 24 rfl rfl
theorem dX1_digits_0 : decode cX1_digits 0 = .ok (.iload_n 0, 1) := dk_26 (dk_at dksX1_digits_0 0 rfl rfl)
theorem dX1_digits_1 : decode cX1_digits 1 = .ok (.ifCond .ne 7, 3) := dk_154 0 7 (dk_at dksX1_digits_0 1 rfl rfl)
theorem dX1_digits_4 : decode cX1_digits 4 = .ok (.iconst 0, 1) := dk_3 (dk_at dksX1_digits_0 4 rfl rfl)
theorem dX1_digits_5 : decode cX1_digits 5 = .ok (.goto 24, 3) := dk_167 0 24 (dk_at dksX1_digits_0 5 rfl rfl)
theorem dX1_digits_8 : decode cX1_digits 8 = .ok (.iload_n 0, 1) := dk_26 (dk_at dksX1_digits_0 8 rfl rfl)
theorem dX1_digits_9 : decode cX1_digits 9 = .ok (.bipush 10, 2) := dk_16 10 (dk_at dksX1_digits_0 9 rfl rfl)
theorem dX1_digits_11 : decode cX1_digits 11 = .ok (.if_icmp .ge 7, 3) := dk_162 0 7 (dk_at dksX1_digits_0 11 rfl rfl)
theorem dX1_digits_14 : decode cX1_digits 14 = .ok (.iconst 1, 1) := dk_4 (dk_at dksX1_digits_0 14 rfl rfl)
theorem dX1_digits_15 : decode cX1_digits 15 = .ok (.goto 14, 3) := dk_167 0 14 (dk_at dksX1_digits_0 15 rfl rfl)
theorem dX1_digits_18 : decode cX1_digits 18 = .ok (.iload_n 0, 1) := dk_26 (dk_at dksX1_digits_0 18 rfl rfl)
theorem dX1_digits_19 : decode cX1_digits 19 = .ok (.bipush 100, 2) := dk_16 100 (dk_at dksX1_digits_0 19 rfl rfl)
theorem dX1_digits_21 : decode cX1_digits 21 = .ok (.if_icmp .ge 7, 3) := dk_162 0 7 (dk_at dksX1_digits_0 21 rfl rfl)
theorem dX1_digits_24 : decode cX1_digits 24 = .ok (.iconst 2, 1) := dk_5 (dk_at dksX1_digits_1 0 rfl rfl)
theorem dX1_digits_25 : decode cX1_digits 25 = .ok (.goto 4, 3) := dk_167 0 4 (dk_at dksX1_digits_1 1 rfl rfl)
theorem dX1_digits_28 : decode cX1_digits 28 = .ok (.iconst 3, 1) := dk_6 (dk_at dksX1_digits_1 4 rfl rfl)
theorem dX1_digits_29 : decode cX1_digits 29 = .ok (.ireturn, 1) := dk_172 (dk_at dksX1_digits_1 5 rfl rfl)
abbrev cX1_showsByAll : ByteArray := prog_1_method_26_code
def yX1_showsByAll : MethodName := ⟨RX1, "showsByAll", "(II)I"⟩
def dkwX1_showsByAll_4 : List UInt8 := [185, 0, 109, 2, 0, 192, 0, 13, 182, 0, 244, 132, 4, 1, 167, 255, 212, 42, 180, 0, 66, 28, 46, 172]
abbrev dktX1_showsByAll_4 : List UInt8 := dkwX1_showsByAll_4 ++ []
def dkwX1_showsByAll_3 : List UInt8 := [162, 0, 39, 42, 42, 180, 0, 23, 45, 21, 4, 185, 0, 109, 2, 0, 192, 0, 172, 182, 0, 200]
abbrev dktX1_showsByAll_3 : List UInt8 := dkwX1_showsByAll_3 ++ dktX1_showsByAll_4
def dkwX1_showsByAll_2 : List UInt8 := [185, 0, 109, 2, 0, 192, 0, 73, 180, 0, 165, 78, 3, 54, 4, 21, 4, 45, 185, 0, 105, 1, 0]
abbrev dktX1_showsByAll_2 : List UInt8 := dkwX1_showsByAll_2 ++ dktX1_showsByAll_3
def dkwX1_showsByAll_1 : List UInt8 := [163, 0, 16, 42, 180, 0, 66, 29, 3, 79, 132, 3, 1, 167, 255, 239, 42, 180, 0, 27, 27]
abbrev dktX1_showsByAll_1 : List UInt8 := dkwX1_showsByAll_1 ++ dktX1_showsByAll_2
def dkwX1_showsByAll_0 : List UInt8 := [27, 42, 180, 0, 27, 185, 0, 105, 1, 0, 184, 0, 191, 28, 184, 0, 122, 3, 62, 29, 17, 3, 231]
abbrev dktX1_showsByAll_0 : List UInt8 := dkwX1_showsByAll_0 ++ dktX1_showsByAll_1
theorem dksX1_showsByAll_0 : cX1_showsByAll.data.toList.drop 0 = dktX1_showsByAll_0 := by decide +kernel
theorem dksX1_showsByAll_1 : cX1_showsByAll.data.toList.drop 23 = dktX1_showsByAll_1 := dk_seg dksX1_showsByAll_0 23 rfl rfl
theorem dksX1_showsByAll_2 : cX1_showsByAll.data.toList.drop 44 = dktX1_showsByAll_2 := dk_seg dksX1_showsByAll_1 21 rfl rfl
theorem dksX1_showsByAll_3 : cX1_showsByAll.data.toList.drop 67 = dktX1_showsByAll_3 := dk_seg dksX1_showsByAll_2 23 rfl rfl
theorem dksX1_showsByAll_4 : cX1_showsByAll.data.toList.drop 89 = dktX1_showsByAll_4 := dk_seg dksX1_showsByAll_3 22 rfl rfl
theorem dX1_showsByAll_0 : decode cX1_showsByAll 0 = .ok (.iload_n 1, 1) := dk_27 (dk_at dksX1_showsByAll_0 0 rfl rfl)
theorem dX1_showsByAll_1 : decode cX1_showsByAll 1 = .ok (.aload_n 0, 1) := dk_42 (dk_at dksX1_showsByAll_0 1 rfl rfl)
theorem dX1_showsByAll_2 : decode cX1_showsByAll 2 = .ok (.getfield 27, 3) := dk_180 0 27 (dk_at dksX1_showsByAll_0 2 rfl rfl)
theorem dX1_showsByAll_5 : decode cX1_showsByAll 5 = .ok (.invokeinterface 105 1, 5) := by decide +kernel
theorem dX1_showsByAll_10 : decode cX1_showsByAll 10 = .ok (.invokestatic 191, 3) := dk_184 0 191 (dk_at dksX1_showsByAll_0 10 rfl rfl)
theorem dX1_showsByAll_13 : decode cX1_showsByAll 13 = .ok (.iload_n 2, 1) := dk_28 (dk_at dksX1_showsByAll_0 13 rfl rfl)
theorem dX1_showsByAll_14 : decode cX1_showsByAll 14 = .ok (.invokestatic 122, 3) := dk_184 0 122 (dk_at dksX1_showsByAll_0 14 rfl rfl)
theorem dX1_showsByAll_17 : decode cX1_showsByAll 17 = .ok (.iconst 0, 1) := dk_3 (dk_at dksX1_showsByAll_0 17 rfl rfl)
theorem dX1_showsByAll_18 : decode cX1_showsByAll 18 = .ok (.istore_n 3, 1) := dk_62 (dk_at dksX1_showsByAll_0 18 rfl rfl)
theorem dX1_showsByAll_19 : decode cX1_showsByAll 19 = .ok (.iload_n 3, 1) := dk_29 (dk_at dksX1_showsByAll_0 19 rfl rfl)
theorem dX1_showsByAll_20 : decode cX1_showsByAll 20 = .ok (.sipush 999, 3) := dk_17 3 231 (dk_at dksX1_showsByAll_0 20 rfl rfl)
theorem dX1_showsByAll_23 : decode cX1_showsByAll 23 = .ok (.if_icmp .gt 16, 3) := dk_163 0 16 (dk_at dksX1_showsByAll_1 0 rfl rfl)
theorem dX1_showsByAll_26 : decode cX1_showsByAll 26 = .ok (.aload_n 0, 1) := dk_42 (dk_at dksX1_showsByAll_1 3 rfl rfl)
theorem dX1_showsByAll_27 : decode cX1_showsByAll 27 = .ok (.getfield 66, 3) := dk_180 0 66 (dk_at dksX1_showsByAll_1 4 rfl rfl)
theorem dX1_showsByAll_30 : decode cX1_showsByAll 30 = .ok (.iload_n 3, 1) := dk_29 (dk_at dksX1_showsByAll_1 7 rfl rfl)
theorem dX1_showsByAll_31 : decode cX1_showsByAll 31 = .ok (.iconst 0, 1) := dk_3 (dk_at dksX1_showsByAll_1 8 rfl rfl)
theorem dX1_showsByAll_32 : decode cX1_showsByAll 32 = .ok (.iastore, 1) := dk_79 (dk_at dksX1_showsByAll_1 9 rfl rfl)
theorem dX1_showsByAll_33 : decode cX1_showsByAll 33 = .ok (.iinc 3 1, 3) := dk_132 3 1 (dk_at dksX1_showsByAll_1 10 rfl rfl)
theorem dX1_showsByAll_36 : decode cX1_showsByAll 36 = .ok (.goto (-17), 3) := dk_167 255 239 (dk_at dksX1_showsByAll_1 13 rfl rfl)
theorem dX1_showsByAll_39 : decode cX1_showsByAll 39 = .ok (.aload_n 0, 1) := dk_42 (dk_at dksX1_showsByAll_1 16 rfl rfl)
theorem dX1_showsByAll_40 : decode cX1_showsByAll 40 = .ok (.getfield 27, 3) := dk_180 0 27 (dk_at dksX1_showsByAll_1 17 rfl rfl)
theorem dX1_showsByAll_43 : decode cX1_showsByAll 43 = .ok (.iload_n 1, 1) := dk_27 (dk_at dksX1_showsByAll_1 20 rfl rfl)
theorem dX1_showsByAll_44 : decode cX1_showsByAll 44 = .ok (.invokeinterface 109 2, 5) := by decide +kernel
theorem dX1_showsByAll_49 : decode cX1_showsByAll 49 = .ok (.checkcast 73, 3) := dk_192 0 73 (dk_at dksX1_showsByAll_2 5 rfl rfl)
theorem dX1_showsByAll_52 : decode cX1_showsByAll 52 = .ok (.getfield 165, 3) := dk_180 0 165 (dk_at dksX1_showsByAll_2 8 rfl rfl)
theorem dX1_showsByAll_55 : decode cX1_showsByAll 55 = .ok (.astore_n 3, 1) := dk_78 (dk_at dksX1_showsByAll_2 11 rfl rfl)
theorem dX1_showsByAll_56 : decode cX1_showsByAll 56 = .ok (.iconst 0, 1) := dk_3 (dk_at dksX1_showsByAll_2 12 rfl rfl)
theorem dX1_showsByAll_57 : decode cX1_showsByAll 57 = .ok (.istore 4, 2) := dk_54 4 (dk_at dksX1_showsByAll_2 13 rfl rfl)
theorem dX1_showsByAll_59 : decode cX1_showsByAll 59 = .ok (.iload 4, 2) := dk_21 4 (dk_at dksX1_showsByAll_2 15 rfl rfl)
theorem dX1_showsByAll_61 : decode cX1_showsByAll 61 = .ok (.aload_n 3, 1) := dk_45 (dk_at dksX1_showsByAll_2 17 rfl rfl)
theorem dX1_showsByAll_62 : decode cX1_showsByAll 62 = .ok (.invokeinterface 105 1, 5) := by decide +kernel
theorem dX1_showsByAll_67 : decode cX1_showsByAll 67 = .ok (.if_icmp .ge 39, 3) := dk_162 0 39 (dk_at dksX1_showsByAll_3 0 rfl rfl)
theorem dX1_showsByAll_70 : decode cX1_showsByAll 70 = .ok (.aload_n 0, 1) := dk_42 (dk_at dksX1_showsByAll_3 3 rfl rfl)
theorem dX1_showsByAll_71 : decode cX1_showsByAll 71 = .ok (.aload_n 0, 1) := dk_42 (dk_at dksX1_showsByAll_3 4 rfl rfl)
theorem dX1_showsByAll_72 : decode cX1_showsByAll 72 = .ok (.getfield 23, 3) := dk_180 0 23 (dk_at dksX1_showsByAll_3 5 rfl rfl)
theorem dX1_showsByAll_75 : decode cX1_showsByAll 75 = .ok (.aload_n 3, 1) := dk_45 (dk_at dksX1_showsByAll_3 8 rfl rfl)
theorem dX1_showsByAll_76 : decode cX1_showsByAll 76 = .ok (.iload 4, 2) := dk_21 4 (dk_at dksX1_showsByAll_3 9 rfl rfl)
theorem dX1_showsByAll_78 : decode cX1_showsByAll 78 = .ok (.invokeinterface 109 2, 5) := by decide +kernel
theorem dX1_showsByAll_83 : decode cX1_showsByAll 83 = .ok (.checkcast 172, 3) := dk_192 0 172 (dk_at dksX1_showsByAll_3 16 rfl rfl)
theorem dX1_showsByAll_86 : decode cX1_showsByAll 86 = .ok (.invokevirtual 200, 3) := dk_182 0 200 (dk_at dksX1_showsByAll_3 19 rfl rfl)
theorem dX1_showsByAll_89 : decode cX1_showsByAll 89 = .ok (.invokeinterface 109 2, 5) := by decide +kernel
theorem dX1_showsByAll_94 : decode cX1_showsByAll 94 = .ok (.checkcast 13, 3) := dk_192 0 13 (dk_at dksX1_showsByAll_4 5 rfl rfl)
theorem dX1_showsByAll_97 : decode cX1_showsByAll 97 = .ok (.invokevirtual 244, 3) := dk_182 0 244 (dk_at dksX1_showsByAll_4 8 rfl rfl)
theorem dX1_showsByAll_100 : decode cX1_showsByAll 100 = .ok (.iinc 4 1, 3) := dk_132 4 1 (dk_at dksX1_showsByAll_4 11 rfl rfl)
theorem dX1_showsByAll_103 : decode cX1_showsByAll 103 = .ok (.goto (-44), 3) := dk_167 255 212 (dk_at dksX1_showsByAll_4 14 rfl rfl)
theorem dX1_showsByAll_106 : decode cX1_showsByAll 106 = .ok (.aload_n 0, 1) := dk_42 (dk_at dksX1_showsByAll_4 17 rfl rfl)
theorem dX1_showsByAll_107 : decode cX1_showsByAll 107 = .ok (.getfield 66, 3) := dk_180 0 66 (dk_at dksX1_showsByAll_4 18 rfl rfl)
theorem dX1_showsByAll_110 : decode cX1_showsByAll 110 = .ok (.iload_n 2, 1) := dk_28 (dk_at dksX1_showsByAll_4 21 rfl rfl)
theorem dX1_showsByAll_111 : decode cX1_showsByAll 111 = .ok (.iaload, 1) := dk_46 (dk_at dksX1_showsByAll_4 22 rfl rfl)
theorem dX1_showsByAll_112 : decode cX1_showsByAll 112 = .ok (.ireturn, 1) := dk_172 (dk_at dksX1_showsByAll_4 23 rfl rfl)
abbrev cX1_layOn : ByteArray := prog_1_method_24_code
def yX1_layOn : MethodName := ⟨RX1, "layOn", "(LCrateDeck$Layer;)V"⟩
def dkwX1_layOn_4 : List UInt8 := [167, 0, 5, 25, 6, 182, 0, 240, 132, 3, 1, 167, 255, 159, 132, 2, 1, 167, 255, 146, 177]
abbrev dktX1_layOn_4 : List UInt8 := dkwX1_layOn_4 ++ []
def dkwX1_layOn_3 : List UInt8 := [43, 29, 182, 0, 129, 58, 6, 42, 25, 6, 199, 0, 16, 187, 0, 218, 89, 29, 5, 3, 183, 0, 238]
abbrev dktX1_layOn_3 : List UInt8 := dkwX1_layOn_3 ++ dktX1_layOn_4
def dkwX1_layOn_2 : List UInt8 := [29, 184, 0, 234, 153, 0, 7, 4, 167, 0, 4, 3, 54, 5, 21, 4, 153, 0, 39, 21, 5, 154, 0, 34]
abbrev dktX1_layOn_2 : List UInt8 := dkwX1_layOn_2 ++ dktX1_layOn_3
def dkwX1_layOn_1 : List UInt8 := [184, 0, 3, 28, 160, 0, 11, 43, 29, 182, 0, 231, 167, 0, 4, 3, 54, 4, 21, 4, 153, 0, 15, 43]
abbrev dktX1_layOn_1 : List UInt8 := dkwX1_layOn_1 ++ dktX1_layOn_2
def dkwX1_layOn_0 : List UInt8 := [4, 61, 28, 6, 163, 0, 111, 4, 62, 29, 17, 3, 231, 163, 0, 96, 29, 184, 0, 95, 153, 0, 19, 29]
abbrev dktX1_layOn_0 : List UInt8 := dkwX1_layOn_0 ++ dktX1_layOn_1
theorem dksX1_layOn_0 : cX1_layOn.data.toList.drop 0 = dktX1_layOn_0 := by decide +kernel
theorem dksX1_layOn_1 : cX1_layOn.data.toList.drop 24 = dktX1_layOn_1 := dk_seg dksX1_layOn_0 24 rfl rfl
theorem dksX1_layOn_2 : cX1_layOn.data.toList.drop 48 = dktX1_layOn_2 := dk_seg dksX1_layOn_1 24 rfl rfl
theorem dksX1_layOn_3 : cX1_layOn.data.toList.drop 72 = dktX1_layOn_3 := dk_seg dksX1_layOn_2 24 rfl rfl
theorem dksX1_layOn_4 : cX1_layOn.data.toList.drop 95 = dktX1_layOn_4 := dk_seg dksX1_layOn_3 23 rfl rfl
theorem dX1_layOn_0 : decode cX1_layOn 0 = .ok (.iconst 1, 1) := dk_4 (dk_at dksX1_layOn_0 0 rfl rfl)
theorem dX1_layOn_1 : decode cX1_layOn 1 = .ok (.istore_n 2, 1) := dk_61 (dk_at dksX1_layOn_0 1 rfl rfl)
theorem dX1_layOn_2 : decode cX1_layOn 2 = .ok (.iload_n 2, 1) := dk_28 (dk_at dksX1_layOn_0 2 rfl rfl)
theorem dX1_layOn_3 : decode cX1_layOn 3 = .ok (.iconst 3, 1) := dk_6 (dk_at dksX1_layOn_0 3 rfl rfl)
theorem dX1_layOn_4 : decode cX1_layOn 4 = .ok (.if_icmp .gt 111, 3) := dk_163 0 111 (dk_at dksX1_layOn_0 4 rfl rfl)
theorem dX1_layOn_7 : decode cX1_layOn 7 = .ok (.iconst 1, 1) := dk_4 (dk_at dksX1_layOn_0 7 rfl rfl)
theorem dX1_layOn_8 : decode cX1_layOn 8 = .ok (.istore_n 3, 1) := dk_62 (dk_at dksX1_layOn_0 8 rfl rfl)
theorem dX1_layOn_9 : decode cX1_layOn 9 = .ok (.iload_n 3, 1) := dk_29 (dk_at dksX1_layOn_0 9 rfl rfl)
theorem dX1_layOn_10 : decode cX1_layOn 10 = .ok (.sipush 999, 3) := dk_17 3 231 (dk_at dksX1_layOn_0 10 rfl rfl)
theorem dX1_layOn_13 : decode cX1_layOn 13 = .ok (.if_icmp .gt 96, 3) := dk_163 0 96 (dk_at dksX1_layOn_0 13 rfl rfl)
theorem dX1_layOn_16 : decode cX1_layOn 16 = .ok (.iload_n 3, 1) := dk_29 (dk_at dksX1_layOn_0 16 rfl rfl)
theorem dX1_layOn_17 : decode cX1_layOn 17 = .ok (.invokestatic 95, 3) := dk_184 0 95 (dk_at dksX1_layOn_0 17 rfl rfl)
theorem dX1_layOn_20 : decode cX1_layOn 20 = .ok (.ifCond .eq 19, 3) := dk_153 0 19 (dk_at dksX1_layOn_0 20 rfl rfl)
theorem dX1_layOn_23 : decode cX1_layOn 23 = .ok (.iload_n 3, 1) := dk_29 (dk_at dksX1_layOn_0 23 rfl rfl)
theorem dX1_layOn_24 : decode cX1_layOn 24 = .ok (.invokestatic 3, 3) := dk_184 0 3 (dk_at dksX1_layOn_1 0 rfl rfl)
theorem dX1_layOn_27 : decode cX1_layOn 27 = .ok (.iload_n 2, 1) := dk_28 (dk_at dksX1_layOn_1 3 rfl rfl)
theorem dX1_layOn_28 : decode cX1_layOn 28 = .ok (.if_icmp .ne 11, 3) := dk_160 0 11 (dk_at dksX1_layOn_1 4 rfl rfl)
theorem dX1_layOn_31 : decode cX1_layOn 31 = .ok (.aload_n 1, 1) := dk_43 (dk_at dksX1_layOn_1 7 rfl rfl)
theorem dX1_layOn_32 : decode cX1_layOn 32 = .ok (.iload_n 3, 1) := dk_29 (dk_at dksX1_layOn_1 8 rfl rfl)
theorem dX1_layOn_33 : decode cX1_layOn 33 = .ok (.invokevirtual 231, 3) := dk_182 0 231 (dk_at dksX1_layOn_1 9 rfl rfl)
theorem dX1_layOn_36 : decode cX1_layOn 36 = .ok (.goto 4, 3) := dk_167 0 4 (dk_at dksX1_layOn_1 12 rfl rfl)
theorem dX1_layOn_39 : decode cX1_layOn 39 = .ok (.iconst 0, 1) := dk_3 (dk_at dksX1_layOn_1 15 rfl rfl)
theorem dX1_layOn_40 : decode cX1_layOn 40 = .ok (.istore 4, 2) := dk_54 4 (dk_at dksX1_layOn_1 16 rfl rfl)
theorem dX1_layOn_42 : decode cX1_layOn 42 = .ok (.iload 4, 2) := dk_21 4 (dk_at dksX1_layOn_1 18 rfl rfl)
theorem dX1_layOn_44 : decode cX1_layOn 44 = .ok (.ifCond .eq 15, 3) := dk_153 0 15 (dk_at dksX1_layOn_1 20 rfl rfl)
theorem dX1_layOn_47 : decode cX1_layOn 47 = .ok (.aload_n 1, 1) := dk_43 (dk_at dksX1_layOn_1 23 rfl rfl)
theorem dX1_layOn_48 : decode cX1_layOn 48 = .ok (.iload_n 3, 1) := dk_29 (dk_at dksX1_layOn_2 0 rfl rfl)
theorem dX1_layOn_49 : decode cX1_layOn 49 = .ok (.invokestatic 234, 3) := dk_184 0 234 (dk_at dksX1_layOn_2 1 rfl rfl)
theorem dX1_layOn_52 : decode cX1_layOn 52 = .ok (.ifCond .eq 7, 3) := dk_153 0 7 (dk_at dksX1_layOn_2 4 rfl rfl)
theorem dX1_layOn_55 : decode cX1_layOn 55 = .ok (.iconst 1, 1) := dk_4 (dk_at dksX1_layOn_2 7 rfl rfl)
theorem dX1_layOn_56 : decode cX1_layOn 56 = .ok (.goto 4, 3) := dk_167 0 4 (dk_at dksX1_layOn_2 8 rfl rfl)
theorem dX1_layOn_59 : decode cX1_layOn 59 = .ok (.iconst 0, 1) := dk_3 (dk_at dksX1_layOn_2 11 rfl rfl)
theorem dX1_layOn_60 : decode cX1_layOn 60 = .ok (.istore 5, 2) := dk_54 5 (dk_at dksX1_layOn_2 12 rfl rfl)
theorem dX1_layOn_62 : decode cX1_layOn 62 = .ok (.iload 4, 2) := dk_21 4 (dk_at dksX1_layOn_2 14 rfl rfl)
theorem dX1_layOn_64 : decode cX1_layOn 64 = .ok (.ifCond .eq 39, 3) := dk_153 0 39 (dk_at dksX1_layOn_2 16 rfl rfl)
theorem dX1_layOn_67 : decode cX1_layOn 67 = .ok (.iload 5, 2) := dk_21 5 (dk_at dksX1_layOn_2 19 rfl rfl)
theorem dX1_layOn_69 : decode cX1_layOn 69 = .ok (.ifCond .ne 34, 3) := dk_154 0 34 (dk_at dksX1_layOn_2 21 rfl rfl)
theorem dX1_layOn_72 : decode cX1_layOn 72 = .ok (.aload_n 1, 1) := dk_43 (dk_at dksX1_layOn_3 0 rfl rfl)
theorem dX1_layOn_73 : decode cX1_layOn 73 = .ok (.iload_n 3, 1) := dk_29 (dk_at dksX1_layOn_3 1 rfl rfl)
theorem dX1_layOn_74 : decode cX1_layOn 74 = .ok (.invokevirtual 129, 3) := dk_182 0 129 (dk_at dksX1_layOn_3 2 rfl rfl)
theorem dX1_layOn_77 : decode cX1_layOn 77 = .ok (.astore 6, 2) := dk_58 6 (dk_at dksX1_layOn_3 5 rfl rfl)
theorem dX1_layOn_79 : decode cX1_layOn 79 = .ok (.aload_n 0, 1) := dk_42 (dk_at dksX1_layOn_3 7 rfl rfl)
theorem dX1_layOn_80 : decode cX1_layOn 80 = .ok (.aload 6, 2) := dk_25 6 (dk_at dksX1_layOn_3 8 rfl rfl)
theorem dX1_layOn_82 : decode cX1_layOn 82 = .ok (.ifnonnull 16, 3) := dk_199 0 16 (dk_at dksX1_layOn_3 10 rfl rfl)
theorem dX1_layOn_85 : decode cX1_layOn 85 = .ok (.new 218, 3) := dk_187 0 218 (dk_at dksX1_layOn_3 13 rfl rfl)
theorem dX1_layOn_88 : decode cX1_layOn 88 = .ok (.dup, 1) := dk_89 (dk_at dksX1_layOn_3 16 rfl rfl)
theorem dX1_layOn_89 : decode cX1_layOn 89 = .ok (.iload_n 3, 1) := dk_29 (dk_at dksX1_layOn_3 17 rfl rfl)
theorem dX1_layOn_90 : decode cX1_layOn 90 = .ok (.iconst 2, 1) := dk_5 (dk_at dksX1_layOn_3 18 rfl rfl)
theorem dX1_layOn_91 : decode cX1_layOn 91 = .ok (.iconst 0, 1) := dk_3 (dk_at dksX1_layOn_3 19 rfl rfl)
theorem dX1_layOn_92 : decode cX1_layOn 92 = .ok (.invokespecial 238, 3) := dk_183 0 238 (dk_at dksX1_layOn_3 20 rfl rfl)
theorem dX1_layOn_95 : decode cX1_layOn 95 = .ok (.goto 5, 3) := dk_167 0 5 (dk_at dksX1_layOn_4 0 rfl rfl)
theorem dX1_layOn_98 : decode cX1_layOn 98 = .ok (.aload 6, 2) := dk_25 6 (dk_at dksX1_layOn_4 3 rfl rfl)
theorem dX1_layOn_100 : decode cX1_layOn 100 = .ok (.invokevirtual 240, 3) := dk_182 0 240 (dk_at dksX1_layOn_4 5 rfl rfl)
theorem dX1_layOn_103 : decode cX1_layOn 103 = .ok (.iinc 3 1, 3) := dk_132 3 1 (dk_at dksX1_layOn_4 8 rfl rfl)
theorem dX1_layOn_106 : decode cX1_layOn 106 = .ok (.goto (-97), 3) := dk_167 255 159 (dk_at dksX1_layOn_4 11 rfl rfl)
theorem dX1_layOn_109 : decode cX1_layOn 109 = .ok (.iinc 2 1, 3) := dk_132 2 1 (dk_at dksX1_layOn_4 14 rfl rfl)
theorem dX1_layOn_112 : decode cX1_layOn 112 = .ok (.goto (-110), 3) := dk_167 255 146 (dk_at dksX1_layOn_4 17 rfl rfl)
theorem dX1_layOn_115 : decode cX1_layOn 115 = .ok (.return_, 1) := dk_177 (dk_at dksX1_layOn_4 20 rfl rfl)
abbrev cX1_isUnderNone : ByteArray := prog_1_method_25_code
def yX1_isUnderNone : MethodName := ⟨RX1, "isUnderNone", "(LCrateDeck$Layer;I)Z"⟩
def dkwX1_isUnderNone_2 : List UInt8 := [28, 172]
abbrev dktX1_isUnderNone_2 : List UInt8 := dkwX1_isUnderNone_2 ++ []
def dkwX1_isUnderNone_1 : List UInt8 := [159, 0, 9, 21, 4, 7, 160, 0, 7, 4, 167, 0, 4, 3, 128, 61, 29, 16, 10, 108, 62, 167, 255, 220]
abbrev dktX1_isUnderNone_1 : List UInt8 := dkwX1_isUnderNone_1 ++ dktX1_isUnderNone_2
def dkwX1_isUnderNone_0 : List UInt8 := [3, 61, 27, 16, 10, 108, 62, 29, 158, 0, 38, 42, 29, 182, 0, 231, 54, 4, 28, 21, 4, 4]
abbrev dktX1_isUnderNone_0 : List UInt8 := dkwX1_isUnderNone_0 ++ dktX1_isUnderNone_1
theorem dksX1_isUnderNone_0 : cX1_isUnderNone.data.toList.drop 0 = dktX1_isUnderNone_0 := by decide +kernel
theorem dksX1_isUnderNone_1 : cX1_isUnderNone.data.toList.drop 22 = dktX1_isUnderNone_1 := dk_seg dksX1_isUnderNone_0 22 rfl rfl
theorem dksX1_isUnderNone_2 : cX1_isUnderNone.data.toList.drop 46 = dktX1_isUnderNone_2 := dk_seg dksX1_isUnderNone_1 24 rfl rfl
theorem dX1_isUnderNone_0 : decode cX1_isUnderNone 0 = .ok (.iconst 0, 1) := dk_3 (dk_at dksX1_isUnderNone_0 0 rfl rfl)
theorem dX1_isUnderNone_1 : decode cX1_isUnderNone 1 = .ok (.istore_n 2, 1) := dk_61 (dk_at dksX1_isUnderNone_0 1 rfl rfl)
theorem dX1_isUnderNone_2 : decode cX1_isUnderNone 2 = .ok (.iload_n 1, 1) := dk_27 (dk_at dksX1_isUnderNone_0 2 rfl rfl)
theorem dX1_isUnderNone_3 : decode cX1_isUnderNone 3 = .ok (.bipush 10, 2) := dk_16 10 (dk_at dksX1_isUnderNone_0 3 rfl rfl)
theorem dX1_isUnderNone_5 : decode cX1_isUnderNone 5 = .ok (.idiv, 1) := dk_108 (dk_at dksX1_isUnderNone_0 5 rfl rfl)
theorem dX1_isUnderNone_6 : decode cX1_isUnderNone 6 = .ok (.istore_n 3, 1) := dk_62 (dk_at dksX1_isUnderNone_0 6 rfl rfl)
theorem dX1_isUnderNone_7 : decode cX1_isUnderNone 7 = .ok (.iload_n 3, 1) := dk_29 (dk_at dksX1_isUnderNone_0 7 rfl rfl)
theorem dX1_isUnderNone_8 : decode cX1_isUnderNone 8 = .ok (.ifCond .le 38, 3) := dk_158 0 38 (dk_at dksX1_isUnderNone_0 8 rfl rfl)
theorem dX1_isUnderNone_11 : decode cX1_isUnderNone 11 = .ok (.aload_n 0, 1) := dk_42 (dk_at dksX1_isUnderNone_0 11 rfl rfl)
theorem dX1_isUnderNone_12 : decode cX1_isUnderNone 12 = .ok (.iload_n 3, 1) := dk_29 (dk_at dksX1_isUnderNone_0 12 rfl rfl)
theorem dX1_isUnderNone_13 : decode cX1_isUnderNone 13 = .ok (.invokevirtual 231, 3) := dk_182 0 231 (dk_at dksX1_isUnderNone_0 13 rfl rfl)
theorem dX1_isUnderNone_16 : decode cX1_isUnderNone 16 = .ok (.istore 4, 2) := dk_54 4 (dk_at dksX1_isUnderNone_0 16 rfl rfl)
theorem dX1_isUnderNone_18 : decode cX1_isUnderNone 18 = .ok (.iload_n 2, 1) := dk_28 (dk_at dksX1_isUnderNone_0 18 rfl rfl)
theorem dX1_isUnderNone_19 : decode cX1_isUnderNone 19 = .ok (.iload 4, 2) := dk_21 4 (dk_at dksX1_isUnderNone_0 19 rfl rfl)
theorem dX1_isUnderNone_21 : decode cX1_isUnderNone 21 = .ok (.iconst 1, 1) := dk_4 (dk_at dksX1_isUnderNone_0 21 rfl rfl)
theorem dX1_isUnderNone_22 : decode cX1_isUnderNone 22 = .ok (.if_icmp .eq 9, 3) := dk_159 0 9 (dk_at dksX1_isUnderNone_1 0 rfl rfl)
theorem dX1_isUnderNone_25 : decode cX1_isUnderNone 25 = .ok (.iload 4, 2) := dk_21 4 (dk_at dksX1_isUnderNone_1 3 rfl rfl)
theorem dX1_isUnderNone_27 : decode cX1_isUnderNone 27 = .ok (.iconst 4, 1) := dk_7 (dk_at dksX1_isUnderNone_1 5 rfl rfl)
theorem dX1_isUnderNone_28 : decode cX1_isUnderNone 28 = .ok (.if_icmp .ne 7, 3) := dk_160 0 7 (dk_at dksX1_isUnderNone_1 6 rfl rfl)
theorem dX1_isUnderNone_31 : decode cX1_isUnderNone 31 = .ok (.iconst 1, 1) := dk_4 (dk_at dksX1_isUnderNone_1 9 rfl rfl)
theorem dX1_isUnderNone_32 : decode cX1_isUnderNone 32 = .ok (.goto 4, 3) := dk_167 0 4 (dk_at dksX1_isUnderNone_1 10 rfl rfl)
theorem dX1_isUnderNone_35 : decode cX1_isUnderNone 35 = .ok (.iconst 0, 1) := dk_3 (dk_at dksX1_isUnderNone_1 13 rfl rfl)
theorem dX1_isUnderNone_36 : decode cX1_isUnderNone 36 = .ok (.ior, 1) := dk_128 (dk_at dksX1_isUnderNone_1 14 rfl rfl)
theorem dX1_isUnderNone_37 : decode cX1_isUnderNone 37 = .ok (.istore_n 2, 1) := dk_61 (dk_at dksX1_isUnderNone_1 15 rfl rfl)
theorem dX1_isUnderNone_38 : decode cX1_isUnderNone 38 = .ok (.iload_n 3, 1) := dk_29 (dk_at dksX1_isUnderNone_1 16 rfl rfl)
theorem dX1_isUnderNone_39 : decode cX1_isUnderNone 39 = .ok (.bipush 10, 2) := dk_16 10 (dk_at dksX1_isUnderNone_1 17 rfl rfl)
theorem dX1_isUnderNone_41 : decode cX1_isUnderNone 41 = .ok (.idiv, 1) := dk_108 (dk_at dksX1_isUnderNone_1 19 rfl rfl)
theorem dX1_isUnderNone_42 : decode cX1_isUnderNone 42 = .ok (.istore_n 3, 1) := dk_62 (dk_at dksX1_isUnderNone_1 20 rfl rfl)
theorem dX1_isUnderNone_43 : decode cX1_isUnderNone 43 = .ok (.goto (-36), 3) := dk_167 255 220 (dk_at dksX1_isUnderNone_1 21 rfl rfl)
theorem dX1_isUnderNone_46 : decode cX1_isUnderNone 46 = .ok (.iload_n 2, 1) := dk_28 (dk_at dksX1_isUnderNone_2 0 rfl rfl)
theorem dX1_isUnderNone_47 : decode cX1_isUnderNone 47 = .ok (.ireturn, 1) := dk_172 (dk_at dksX1_isUnderNone_2 1 rfl rfl)
abbrev cX1_layEntry : ByteArray := prog_1_method_23_code
def yX1_layEntry : MethodName := ⟨RX1, "layEntry", "(LCrateDeck$Entry;)V"⟩
def dkwX1_layEntry_4 : List UInt8 := [180, 0, 66, 43, 182, 0, 222, 5, 79, 167, 0, 11, 42, 43, 182, 0, 222, 182, 0, 228, 177]
abbrev dktX1_layEntry_4 : List UInt8 := dkwX1_layEntry_4 ++ []
def dkwX1_layEntry_3 : List UInt8 := [167, 0, 43, 42, 43, 182, 0, 222, 182, 0, 214, 167, 0, 32, 42, 43, 182, 0, 222, 182, 0, 214, 42]
abbrev dktX1_layEntry_3 : List UInt8 := dkwX1_layEntry_3 ++ dktX1_layEntry_4
def dkwX1_layEntry_2 : List UInt8 := [42, 43, 182, 0, 222, 182, 0, 214, 42, 180, 0, 66, 43, 182, 0, 222, 16, 10, 43, 182, 0, 225, 96, 79]
abbrev dktX1_layEntry_2 : List UInt8 := dkwX1_layEntry_2 ++ dktX1_layEntry_3
def dkwX1_layEntry_1 : List UInt8 := [170, 0, 0, 0, 0, 0, 0, 91, 0, 0, 0, 1, 0, 0, 0, 4, 0, 0, 0, 32, 0, 0, 0, 91, 0, 0, 0, 70, 0, 0, 0, 59]
abbrev dktX1_layEntry_1 : List UInt8 := dkwX1_layEntry_1 ++ dktX1_layEntry_2
def dkwX1_layEntry_0 : List UInt8 := [43, 182, 0, 217]
abbrev dktX1_layEntry_0 : List UInt8 := dkwX1_layEntry_0 ++ dktX1_layEntry_1
theorem dksX1_layEntry_0 : cX1_layEntry.data.toList.drop 0 = dktX1_layEntry_0 := by decide +kernel
theorem dksX1_layEntry_1 : cX1_layEntry.data.toList.drop 4 = dktX1_layEntry_1 := dk_seg dksX1_layEntry_0 4 rfl rfl
theorem dksX1_layEntry_2 : cX1_layEntry.data.toList.drop 36 = dktX1_layEntry_2 := dk_seg dksX1_layEntry_1 32 rfl rfl
theorem dksX1_layEntry_3 : cX1_layEntry.data.toList.drop 60 = dktX1_layEntry_3 := dk_seg dksX1_layEntry_2 24 rfl rfl
theorem dksX1_layEntry_4 : cX1_layEntry.data.toList.drop 83 = dktX1_layEntry_4 := dk_seg dksX1_layEntry_3 23 rfl rfl
theorem dX1_layEntry_0 : decode cX1_layEntry 0 = .ok (.aload_n 1, 1) := dk_43 (dk_at dksX1_layEntry_0 0 rfl rfl)
theorem dX1_layEntry_1 : decode cX1_layEntry 1 = .ok (.invokevirtual 217, 3) := dk_182 0 217 (dk_at dksX1_layEntry_0 1 rfl rfl)
theorem dX1_layEntry_4 : decode cX1_layEntry 4 = .ok (.tableswitch 91 1 4 #[32, 91, 70, 59], 32) := by decide +kernel
theorem dX1_layEntry_36 : decode cX1_layEntry 36 = .ok (.aload_n 0, 1) := dk_42 (dk_at dksX1_layEntry_2 0 rfl rfl)
theorem dX1_layEntry_37 : decode cX1_layEntry 37 = .ok (.aload_n 1, 1) := dk_43 (dk_at dksX1_layEntry_2 1 rfl rfl)
theorem dX1_layEntry_38 : decode cX1_layEntry 38 = .ok (.invokevirtual 222, 3) := dk_182 0 222 (dk_at dksX1_layEntry_2 2 rfl rfl)
theorem dX1_layEntry_41 : decode cX1_layEntry 41 = .ok (.invokevirtual 214, 3) := dk_182 0 214 (dk_at dksX1_layEntry_2 5 rfl rfl)
theorem dX1_layEntry_44 : decode cX1_layEntry 44 = .ok (.aload_n 0, 1) := dk_42 (dk_at dksX1_layEntry_2 8 rfl rfl)
theorem dX1_layEntry_45 : decode cX1_layEntry 45 = .ok (.getfield 66, 3) := dk_180 0 66 (dk_at dksX1_layEntry_2 9 rfl rfl)
theorem dX1_layEntry_48 : decode cX1_layEntry 48 = .ok (.aload_n 1, 1) := dk_43 (dk_at dksX1_layEntry_2 12 rfl rfl)
theorem dX1_layEntry_49 : decode cX1_layEntry 49 = .ok (.invokevirtual 222, 3) := dk_182 0 222 (dk_at dksX1_layEntry_2 13 rfl rfl)
theorem dX1_layEntry_52 : decode cX1_layEntry 52 = .ok (.bipush 10, 2) := dk_16 10 (dk_at dksX1_layEntry_2 16 rfl rfl)
theorem dX1_layEntry_54 : decode cX1_layEntry 54 = .ok (.aload_n 1, 1) := dk_43 (dk_at dksX1_layEntry_2 18 rfl rfl)
theorem dX1_layEntry_55 : decode cX1_layEntry 55 = .ok (.invokevirtual 225, 3) := dk_182 0 225 (dk_at dksX1_layEntry_2 19 rfl rfl)
theorem dX1_layEntry_58 : decode cX1_layEntry 58 = .ok (.iadd, 1) := dk_96 (dk_at dksX1_layEntry_2 22 rfl rfl)
theorem dX1_layEntry_59 : decode cX1_layEntry 59 = .ok (.iastore, 1) := dk_79 (dk_at dksX1_layEntry_2 23 rfl rfl)
theorem dX1_layEntry_60 : decode cX1_layEntry 60 = .ok (.goto 43, 3) := dk_167 0 43 (dk_at dksX1_layEntry_3 0 rfl rfl)
theorem dX1_layEntry_63 : decode cX1_layEntry 63 = .ok (.aload_n 0, 1) := dk_42 (dk_at dksX1_layEntry_3 3 rfl rfl)
theorem dX1_layEntry_64 : decode cX1_layEntry 64 = .ok (.aload_n 1, 1) := dk_43 (dk_at dksX1_layEntry_3 4 rfl rfl)
theorem dX1_layEntry_65 : decode cX1_layEntry 65 = .ok (.invokevirtual 222, 3) := dk_182 0 222 (dk_at dksX1_layEntry_3 5 rfl rfl)
theorem dX1_layEntry_68 : decode cX1_layEntry 68 = .ok (.invokevirtual 214, 3) := dk_182 0 214 (dk_at dksX1_layEntry_3 8 rfl rfl)
theorem dX1_layEntry_71 : decode cX1_layEntry 71 = .ok (.goto 32, 3) := dk_167 0 32 (dk_at dksX1_layEntry_3 11 rfl rfl)
theorem dX1_layEntry_74 : decode cX1_layEntry 74 = .ok (.aload_n 0, 1) := dk_42 (dk_at dksX1_layEntry_3 14 rfl rfl)
theorem dX1_layEntry_75 : decode cX1_layEntry 75 = .ok (.aload_n 1, 1) := dk_43 (dk_at dksX1_layEntry_3 15 rfl rfl)
theorem dX1_layEntry_76 : decode cX1_layEntry 76 = .ok (.invokevirtual 222, 3) := dk_182 0 222 (dk_at dksX1_layEntry_3 16 rfl rfl)
theorem dX1_layEntry_79 : decode cX1_layEntry 79 = .ok (.invokevirtual 214, 3) := dk_182 0 214 (dk_at dksX1_layEntry_3 19 rfl rfl)
theorem dX1_layEntry_82 : decode cX1_layEntry 82 = .ok (.aload_n 0, 1) := dk_42 (dk_at dksX1_layEntry_3 22 rfl rfl)
theorem dX1_layEntry_83 : decode cX1_layEntry 83 = .ok (.getfield 66, 3) := dk_180 0 66 (dk_at dksX1_layEntry_4 0 rfl rfl)
theorem dX1_layEntry_86 : decode cX1_layEntry 86 = .ok (.aload_n 1, 1) := dk_43 (dk_at dksX1_layEntry_4 3 rfl rfl)
theorem dX1_layEntry_87 : decode cX1_layEntry 87 = .ok (.invokevirtual 222, 3) := dk_182 0 222 (dk_at dksX1_layEntry_4 4 rfl rfl)
theorem dX1_layEntry_90 : decode cX1_layEntry 90 = .ok (.iconst 2, 1) := dk_5 (dk_at dksX1_layEntry_4 7 rfl rfl)
theorem dX1_layEntry_91 : decode cX1_layEntry 91 = .ok (.iastore, 1) := dk_79 (dk_at dksX1_layEntry_4 8 rfl rfl)
theorem dX1_layEntry_92 : decode cX1_layEntry 92 = .ok (.goto 11, 3) := dk_167 0 11 (dk_at dksX1_layEntry_4 9 rfl rfl)
theorem dX1_layEntry_95 : decode cX1_layEntry 95 = .ok (.aload_n 0, 1) := dk_42 (dk_at dksX1_layEntry_4 12 rfl rfl)
theorem dX1_layEntry_96 : decode cX1_layEntry 96 = .ok (.aload_n 1, 1) := dk_43 (dk_at dksX1_layEntry_4 13 rfl rfl)
theorem dX1_layEntry_97 : decode cX1_layEntry 97 = .ok (.invokevirtual 222, 3) := dk_182 0 222 (dk_at dksX1_layEntry_4 14 rfl rfl)
theorem dX1_layEntry_100 : decode cX1_layEntry 100 = .ok (.invokevirtual 228, 3) := dk_182 0 228 (dk_at dksX1_layEntry_4 17 rfl rfl)
theorem dX1_layEntry_103 : decode cX1_layEntry 103 = .ok (.return_, 1) := dk_177 (dk_at dksX1_layEntry_4 20 rfl rfl)
abbrev cX1_clearWithin : ByteArray := prog_1_method_21_code
def yX1_clearWithin : MethodName := ⟨RX1, "clearWithin", "(I)V"⟩
def dkwX1_clearWithin_1 : List UInt8 := [167, 0, 9, 42, 180, 0, 66, 28, 46, 79, 132, 2, 1, 167, 255, 222, 177]
abbrev dktX1_clearWithin_1 : List UInt8 := dkwX1_clearWithin_1 ++ []
def dkwX1_clearWithin_0 : List UInt8 := [4, 61, 28, 17, 3, 231, 163, 0, 33, 42, 180, 0, 66, 28, 28, 27, 184, 0, 210, 153, 0, 7, 3]
abbrev dktX1_clearWithin_0 : List UInt8 := dkwX1_clearWithin_0 ++ dktX1_clearWithin_1
theorem dksX1_clearWithin_0 : cX1_clearWithin.data.toList.drop 0 = dktX1_clearWithin_0 := by decide +kernel
theorem dksX1_clearWithin_1 : cX1_clearWithin.data.toList.drop 23 = dktX1_clearWithin_1 := dk_seg dksX1_clearWithin_0 23 rfl rfl
theorem dX1_clearWithin_0 : decode cX1_clearWithin 0 = .ok (.iconst 1, 1) := dk_4 (dk_at dksX1_clearWithin_0 0 rfl rfl)
theorem dX1_clearWithin_1 : decode cX1_clearWithin 1 = .ok (.istore_n 2, 1) := dk_61 (dk_at dksX1_clearWithin_0 1 rfl rfl)
theorem dX1_clearWithin_2 : decode cX1_clearWithin 2 = .ok (.iload_n 2, 1) := dk_28 (dk_at dksX1_clearWithin_0 2 rfl rfl)
theorem dX1_clearWithin_3 : decode cX1_clearWithin 3 = .ok (.sipush 999, 3) := dk_17 3 231 (dk_at dksX1_clearWithin_0 3 rfl rfl)
theorem dX1_clearWithin_6 : decode cX1_clearWithin 6 = .ok (.if_icmp .gt 33, 3) := dk_163 0 33 (dk_at dksX1_clearWithin_0 6 rfl rfl)
theorem dX1_clearWithin_9 : decode cX1_clearWithin 9 = .ok (.aload_n 0, 1) := dk_42 (dk_at dksX1_clearWithin_0 9 rfl rfl)
theorem dX1_clearWithin_10 : decode cX1_clearWithin 10 = .ok (.getfield 66, 3) := dk_180 0 66 (dk_at dksX1_clearWithin_0 10 rfl rfl)
theorem dX1_clearWithin_13 : decode cX1_clearWithin 13 = .ok (.iload_n 2, 1) := dk_28 (dk_at dksX1_clearWithin_0 13 rfl rfl)
theorem dX1_clearWithin_14 : decode cX1_clearWithin 14 = .ok (.iload_n 2, 1) := dk_28 (dk_at dksX1_clearWithin_0 14 rfl rfl)
theorem dX1_clearWithin_15 : decode cX1_clearWithin 15 = .ok (.iload_n 1, 1) := dk_27 (dk_at dksX1_clearWithin_0 15 rfl rfl)
theorem dX1_clearWithin_16 : decode cX1_clearWithin 16 = .ok (.invokestatic 210, 3) := dk_184 0 210 (dk_at dksX1_clearWithin_0 16 rfl rfl)
theorem dX1_clearWithin_19 : decode cX1_clearWithin 19 = .ok (.ifCond .eq 7, 3) := dk_153 0 7 (dk_at dksX1_clearWithin_0 19 rfl rfl)
theorem dX1_clearWithin_22 : decode cX1_clearWithin 22 = .ok (.iconst 0, 1) := dk_3 (dk_at dksX1_clearWithin_0 22 rfl rfl)
theorem dX1_clearWithin_23 : decode cX1_clearWithin 23 = .ok (.goto 9, 3) := dk_167 0 9 (dk_at dksX1_clearWithin_1 0 rfl rfl)
theorem dX1_clearWithin_26 : decode cX1_clearWithin 26 = .ok (.aload_n 0, 1) := dk_42 (dk_at dksX1_clearWithin_1 3 rfl rfl)
theorem dX1_clearWithin_27 : decode cX1_clearWithin 27 = .ok (.getfield 66, 3) := dk_180 0 66 (dk_at dksX1_clearWithin_1 4 rfl rfl)
theorem dX1_clearWithin_30 : decode cX1_clearWithin 30 = .ok (.iload_n 2, 1) := dk_28 (dk_at dksX1_clearWithin_1 7 rfl rfl)
theorem dX1_clearWithin_31 : decode cX1_clearWithin 31 = .ok (.iaload, 1) := dk_46 (dk_at dksX1_clearWithin_1 8 rfl rfl)
theorem dX1_clearWithin_32 : decode cX1_clearWithin 32 = .ok (.iastore, 1) := dk_79 (dk_at dksX1_clearWithin_1 9 rfl rfl)
theorem dX1_clearWithin_33 : decode cX1_clearWithin 33 = .ok (.iinc 2 1, 3) := dk_132 2 1 (dk_at dksX1_clearWithin_1 10 rfl rfl)
theorem dX1_clearWithin_36 : decode cX1_clearWithin 36 = .ok (.goto (-34), 3) := dk_167 255 222 (dk_at dksX1_clearWithin_1 13 rfl rfl)
theorem dX1_clearWithin_39 : decode cX1_clearWithin 39 = .ok (.return_, 1) := dk_177 (dk_at dksX1_clearWithin_1 16 rfl rfl)
abbrev cX1_layFolder : ByteArray := prog_1_method_22_code
def yX1_layFolder : MethodName := ⟨RX1, "layFolder", "(I)V"⟩
def dkwX1_layFolder_0 : List UInt8 := [42, 180, 0, 66, 27, 46, 5, 159, 0, 15, 42, 27, 182, 0, 214, 42, 180, 0, 66, 27, 5, 79, 177]
abbrev dktX1_layFolder_0 : List UInt8 := dkwX1_layFolder_0 ++ []
theorem dksX1_layFolder_0 : cX1_layFolder.data.toList.drop 0 = dktX1_layFolder_0 := by decide +kernel
theorem dX1_layFolder_0 : decode cX1_layFolder 0 = .ok (.aload_n 0, 1) := dk_42 (dk_at dksX1_layFolder_0 0 rfl rfl)
theorem dX1_layFolder_1 : decode cX1_layFolder 1 = .ok (.getfield 66, 3) := dk_180 0 66 (dk_at dksX1_layFolder_0 1 rfl rfl)
theorem dX1_layFolder_4 : decode cX1_layFolder 4 = .ok (.iload_n 1, 1) := dk_27 (dk_at dksX1_layFolder_0 4 rfl rfl)
theorem dX1_layFolder_5 : decode cX1_layFolder 5 = .ok (.iaload, 1) := dk_46 (dk_at dksX1_layFolder_0 5 rfl rfl)
theorem dX1_layFolder_6 : decode cX1_layFolder 6 = .ok (.iconst 2, 1) := dk_5 (dk_at dksX1_layFolder_0 6 rfl rfl)
theorem dX1_layFolder_7 : decode cX1_layFolder 7 = .ok (.if_icmp .eq 15, 3) := dk_159 0 15 (dk_at dksX1_layFolder_0 7 rfl rfl)
theorem dX1_layFolder_10 : decode cX1_layFolder 10 = .ok (.aload_n 0, 1) := dk_42 (dk_at dksX1_layFolder_0 10 rfl rfl)
theorem dX1_layFolder_11 : decode cX1_layFolder 11 = .ok (.iload_n 1, 1) := dk_27 (dk_at dksX1_layFolder_0 11 rfl rfl)
theorem dX1_layFolder_12 : decode cX1_layFolder 12 = .ok (.invokevirtual 214, 3) := dk_182 0 214 (dk_at dksX1_layFolder_0 12 rfl rfl)
theorem dX1_layFolder_15 : decode cX1_layFolder 15 = .ok (.aload_n 0, 1) := dk_42 (dk_at dksX1_layFolder_0 15 rfl rfl)
theorem dX1_layFolder_16 : decode cX1_layFolder 16 = .ok (.getfield 66, 3) := dk_180 0 66 (dk_at dksX1_layFolder_0 16 rfl rfl)
theorem dX1_layFolder_19 : decode cX1_layFolder 19 = .ok (.iload_n 1, 1) := dk_27 (dk_at dksX1_layFolder_0 19 rfl rfl)
theorem dX1_layFolder_20 : decode cX1_layFolder 20 = .ok (.iconst 2, 1) := dk_5 (dk_at dksX1_layFolder_0 20 rfl rfl)
theorem dX1_layFolder_21 : decode cX1_layFolder 21 = .ok (.iastore, 1) := dk_79 (dk_at dksX1_layFolder_0 21 rfl rfl)
theorem dX1_layFolder_22 : decode cX1_layFolder 22 = .ok (.return_, 1) := dk_177 (dk_at dksX1_layFolder_0 22 rfl rfl)
abbrev cX1_start : ByteArray := prog_1_method_30_code
def yX1_start : MethodName := ⟨RX1, "start", "(II)I"⟩
def dkwX1_start_1 : List UInt8 := [182, 1, 7, 184, 0, 136, 42, 27, 28, 2, 182, 1, 10, 180, 0, 115, 172]
abbrev dktX1_start_1 : List UInt8 := dkwX1_start_1 ++ []
def dkwX1_start_0 : List UInt8 := [27, 42, 180, 0, 27, 185, 0, 105, 1, 0, 184, 0, 191, 28, 3, 16, 9, 184, 0, 125, 42, 27]
abbrev dktX1_start_0 : List UInt8 := dkwX1_start_0 ++ dktX1_start_1
theorem dksX1_start_0 : cX1_start.data.toList.drop 0 = dktX1_start_0 := by decide +kernel
theorem dksX1_start_1 : cX1_start.data.toList.drop 22 = dktX1_start_1 := dk_seg dksX1_start_0 22 rfl rfl
theorem dX1_start_0 : decode cX1_start 0 = .ok (.iload_n 1, 1) := dk_27 (dk_at dksX1_start_0 0 rfl rfl)
theorem dX1_start_1 : decode cX1_start 1 = .ok (.aload_n 0, 1) := dk_42 (dk_at dksX1_start_0 1 rfl rfl)
theorem dX1_start_2 : decode cX1_start 2 = .ok (.getfield 27, 3) := dk_180 0 27 (dk_at dksX1_start_0 2 rfl rfl)
theorem dX1_start_5 : decode cX1_start 5 = .ok (.invokeinterface 105 1, 5) := by decide +kernel
theorem dX1_start_10 : decode cX1_start 10 = .ok (.invokestatic 191, 3) := dk_184 0 191 (dk_at dksX1_start_0 10 rfl rfl)
theorem dX1_start_13 : decode cX1_start 13 = .ok (.iload_n 2, 1) := dk_28 (dk_at dksX1_start_0 13 rfl rfl)
theorem dX1_start_14 : decode cX1_start 14 = .ok (.iconst 0, 1) := dk_3 (dk_at dksX1_start_0 14 rfl rfl)
theorem dX1_start_15 : decode cX1_start 15 = .ok (.bipush 9, 2) := dk_16 9 (dk_at dksX1_start_0 15 rfl rfl)
theorem dX1_start_17 : decode cX1_start 17 = .ok (.invokestatic 125, 3) := dk_184 0 125 (dk_at dksX1_start_0 17 rfl rfl)
theorem dX1_start_20 : decode cX1_start 20 = .ok (.aload_n 0, 1) := dk_42 (dk_at dksX1_start_0 20 rfl rfl)
theorem dX1_start_21 : decode cX1_start 21 = .ok (.iload_n 1, 1) := dk_27 (dk_at dksX1_start_0 21 rfl rfl)
theorem dX1_start_22 : decode cX1_start 22 = .ok (.invokevirtual 263, 3) := dk_182 1 7 (dk_at dksX1_start_1 0 rfl rfl)
theorem dX1_start_25 : decode cX1_start 25 = .ok (.invokestatic 136, 3) := dk_184 0 136 (dk_at dksX1_start_1 3 rfl rfl)
theorem dX1_start_28 : decode cX1_start 28 = .ok (.aload_n 0, 1) := dk_42 (dk_at dksX1_start_1 6 rfl rfl)
theorem dX1_start_29 : decode cX1_start 29 = .ok (.iload_n 1, 1) := dk_27 (dk_at dksX1_start_1 7 rfl rfl)
theorem dX1_start_30 : decode cX1_start 30 = .ok (.iload_n 2, 1) := dk_28 (dk_at dksX1_start_1 8 rfl rfl)
theorem dX1_start_31 : decode cX1_start 31 = .ok (.iconst (-1), 1) := dk_2 (dk_at dksX1_start_1 9 rfl rfl)
theorem dX1_start_32 : decode cX1_start 32 = .ok (.invokevirtual 266, 3) := dk_182 1 10 (dk_at dksX1_start_1 10 rfl rfl)
theorem dX1_start_35 : decode cX1_start 35 = .ok (.getfield 115, 3) := dk_180 0 115 (dk_at dksX1_start_1 13 rfl rfl)
theorem dX1_start_38 : decode cX1_start 38 = .ok (.ireturn, 1) := dk_172 (dk_at dksX1_start_1 16 rfl rfl)
abbrev cX1_canStart : ByteArray := prog_1_method_28_code
def yX1_canStart : MethodName := ⟨RX1, "canStart", "(I)Z"⟩
def dkwX1_canStart_1 : List UInt8 := [180, 0, 151, 126, 28, 160, 0, 7, 4, 167, 0, 4, 3, 172]
abbrev dktX1_canStart_1 : List UInt8 := dkwX1_canStart_1 ++ []
def dkwX1_canStart_0 : List UInt8 := [42, 27, 182, 1, 4, 61, 42, 180, 0, 30, 185, 0, 105, 1, 0, 16, 8, 162, 0, 17, 28, 42]
abbrev dktX1_canStart_0 : List UInt8 := dkwX1_canStart_0 ++ dktX1_canStart_1
theorem dksX1_canStart_0 : cX1_canStart.data.toList.drop 0 = dktX1_canStart_0 := by decide +kernel
theorem dksX1_canStart_1 : cX1_canStart.data.toList.drop 22 = dktX1_canStart_1 := dk_seg dksX1_canStart_0 22 rfl rfl
theorem dX1_canStart_0 : decode cX1_canStart 0 = .ok (.aload_n 0, 1) := dk_42 (dk_at dksX1_canStart_0 0 rfl rfl)
theorem dX1_canStart_1 : decode cX1_canStart 1 = .ok (.iload_n 1, 1) := dk_27 (dk_at dksX1_canStart_0 1 rfl rfl)
theorem dX1_canStart_2 : decode cX1_canStart 2 = .ok (.invokevirtual 260, 3) := dk_182 1 4 (dk_at dksX1_canStart_0 2 rfl rfl)
theorem dX1_canStart_5 : decode cX1_canStart 5 = .ok (.istore_n 2, 1) := dk_61 (dk_at dksX1_canStart_0 5 rfl rfl)
theorem dX1_canStart_6 : decode cX1_canStart 6 = .ok (.aload_n 0, 1) := dk_42 (dk_at dksX1_canStart_0 6 rfl rfl)
theorem dX1_canStart_7 : decode cX1_canStart 7 = .ok (.getfield 30, 3) := dk_180 0 30 (dk_at dksX1_canStart_0 7 rfl rfl)
theorem dX1_canStart_10 : decode cX1_canStart 10 = .ok (.invokeinterface 105 1, 5) := by decide +kernel
theorem dX1_canStart_15 : decode cX1_canStart 15 = .ok (.bipush 8, 2) := dk_16 8 (dk_at dksX1_canStart_0 15 rfl rfl)
theorem dX1_canStart_17 : decode cX1_canStart 17 = .ok (.if_icmp .ge 17, 3) := dk_162 0 17 (dk_at dksX1_canStart_0 17 rfl rfl)
theorem dX1_canStart_20 : decode cX1_canStart 20 = .ok (.iload_n 2, 1) := dk_28 (dk_at dksX1_canStart_0 20 rfl rfl)
theorem dX1_canStart_21 : decode cX1_canStart 21 = .ok (.aload_n 0, 1) := dk_42 (dk_at dksX1_canStart_0 21 rfl rfl)
theorem dX1_canStart_22 : decode cX1_canStart 22 = .ok (.getfield 151, 3) := dk_180 0 151 (dk_at dksX1_canStart_1 0 rfl rfl)
theorem dX1_canStart_25 : decode cX1_canStart 25 = .ok (.iand, 1) := dk_126 (dk_at dksX1_canStart_1 3 rfl rfl)
theorem dX1_canStart_26 : decode cX1_canStart 26 = .ok (.iload_n 2, 1) := dk_28 (dk_at dksX1_canStart_1 4 rfl rfl)
theorem dX1_canStart_27 : decode cX1_canStart 27 = .ok (.if_icmp .ne 7, 3) := dk_160 0 7 (dk_at dksX1_canStart_1 5 rfl rfl)
theorem dX1_canStart_30 : decode cX1_canStart 30 = .ok (.iconst 1, 1) := dk_4 (dk_at dksX1_canStart_1 8 rfl rfl)
theorem dX1_canStart_31 : decode cX1_canStart 31 = .ok (.goto 4, 3) := dk_167 0 4 (dk_at dksX1_canStart_1 9 rfl rfl)
theorem dX1_canStart_34 : decode cX1_canStart 34 = .ok (.iconst 0, 1) := dk_3 (dk_at dksX1_canStart_1 12 rfl rfl)
theorem dX1_canStart_35 : decode cX1_canStart 35 = .ok (.ireturn, 1) := dk_172 (dk_at dksX1_canStart_1 13 rfl rfl)
abbrev cX1_begin : ByteArray := prog_1_method_27_code
def yX1_begin : MethodName := ⟨RX1, "begin", "(III)LCrateDeck$Container;"⟩
def dkwX1_begin_3 : List UInt8 := [180, 1, 1, 185, 0, 76, 2, 0, 87, 42, 180, 0, 30, 25, 4, 185, 0, 76, 2, 0, 87, 25, 4, 176]
abbrev dktX1_begin_3 : List UInt8 := dkwX1_begin_3 ++ []
def dkwX1_begin_2 : List UInt8 := [180, 0, 251, 180, 0, 199, 185, 0, 187, 2, 0, 87, 25, 4, 180, 0, 254, 180, 0, 199, 25, 4]
abbrev dktX1_begin_2 : List UInt8 := dkwX1_begin_2 ++ dktX1_begin_3
def dkwX1_begin_1 : List UInt8 := [181, 0, 247, 42, 25, 4, 180, 0, 251, 27, 182, 0, 203, 25, 4, 180, 0, 254, 180, 0, 199, 25, 4]
abbrev dktX1_begin_1 : List UInt8 := dkwX1_begin_1 ++ dktX1_begin_2
def dkwX1_begin_0 : List UInt8 := [187, 0, 113, 89, 42, 180, 0, 247, 27, 28, 29, 183, 0, 250, 58, 4, 42, 89, 180, 0, 247, 4, 96]
abbrev dktX1_begin_0 : List UInt8 := dkwX1_begin_0 ++ dktX1_begin_1
theorem dksX1_begin_0 : cX1_begin.data.toList.drop 0 = dktX1_begin_0 := by decide +kernel
theorem dksX1_begin_1 : cX1_begin.data.toList.drop 23 = dktX1_begin_1 := dk_seg dksX1_begin_0 23 rfl rfl
theorem dksX1_begin_2 : cX1_begin.data.toList.drop 46 = dktX1_begin_2 := dk_seg dksX1_begin_1 23 rfl rfl
theorem dksX1_begin_3 : cX1_begin.data.toList.drop 68 = dktX1_begin_3 := dk_seg dksX1_begin_2 22 rfl rfl
theorem dX1_begin_0 : decode cX1_begin 0 = .ok (.new 113, 3) := dk_187 0 113 (dk_at dksX1_begin_0 0 rfl rfl)
theorem dX1_begin_3 : decode cX1_begin 3 = .ok (.dup, 1) := dk_89 (dk_at dksX1_begin_0 3 rfl rfl)
theorem dX1_begin_4 : decode cX1_begin 4 = .ok (.aload_n 0, 1) := dk_42 (dk_at dksX1_begin_0 4 rfl rfl)
theorem dX1_begin_5 : decode cX1_begin 5 = .ok (.getfield 247, 3) := dk_180 0 247 (dk_at dksX1_begin_0 5 rfl rfl)
theorem dX1_begin_8 : decode cX1_begin 8 = .ok (.iload_n 1, 1) := dk_27 (dk_at dksX1_begin_0 8 rfl rfl)
theorem dX1_begin_9 : decode cX1_begin 9 = .ok (.iload_n 2, 1) := dk_28 (dk_at dksX1_begin_0 9 rfl rfl)
theorem dX1_begin_10 : decode cX1_begin 10 = .ok (.iload_n 3, 1) := dk_29 (dk_at dksX1_begin_0 10 rfl rfl)
theorem dX1_begin_11 : decode cX1_begin 11 = .ok (.invokespecial 250, 3) := dk_183 0 250 (dk_at dksX1_begin_0 11 rfl rfl)
theorem dX1_begin_14 : decode cX1_begin 14 = .ok (.astore 4, 2) := dk_58 4 (dk_at dksX1_begin_0 14 rfl rfl)
theorem dX1_begin_16 : decode cX1_begin 16 = .ok (.aload_n 0, 1) := dk_42 (dk_at dksX1_begin_0 16 rfl rfl)
theorem dX1_begin_17 : decode cX1_begin 17 = .ok (.dup, 1) := dk_89 (dk_at dksX1_begin_0 17 rfl rfl)
theorem dX1_begin_18 : decode cX1_begin 18 = .ok (.getfield 247, 3) := dk_180 0 247 (dk_at dksX1_begin_0 18 rfl rfl)
theorem dX1_begin_21 : decode cX1_begin 21 = .ok (.iconst 1, 1) := dk_4 (dk_at dksX1_begin_0 21 rfl rfl)
theorem dX1_begin_22 : decode cX1_begin 22 = .ok (.iadd, 1) := dk_96 (dk_at dksX1_begin_0 22 rfl rfl)
theorem dX1_begin_23 : decode cX1_begin 23 = .ok (.putfield 247, 3) := dk_181 0 247 (dk_at dksX1_begin_1 0 rfl rfl)
theorem dX1_begin_26 : decode cX1_begin 26 = .ok (.aload_n 0, 1) := dk_42 (dk_at dksX1_begin_1 3 rfl rfl)
theorem dX1_begin_27 : decode cX1_begin 27 = .ok (.aload 4, 2) := dk_25 4 (dk_at dksX1_begin_1 4 rfl rfl)
theorem dX1_begin_29 : decode cX1_begin 29 = .ok (.getfield 251, 3) := dk_180 0 251 (dk_at dksX1_begin_1 6 rfl rfl)
theorem dX1_begin_32 : decode cX1_begin 32 = .ok (.iload_n 1, 1) := dk_27 (dk_at dksX1_begin_1 9 rfl rfl)
theorem dX1_begin_33 : decode cX1_begin 33 = .ok (.invokevirtual 203, 3) := dk_182 0 203 (dk_at dksX1_begin_1 10 rfl rfl)
theorem dX1_begin_36 : decode cX1_begin 36 = .ok (.aload 4, 2) := dk_25 4 (dk_at dksX1_begin_1 13 rfl rfl)
theorem dX1_begin_38 : decode cX1_begin 38 = .ok (.getfield 254, 3) := dk_180 0 254 (dk_at dksX1_begin_1 15 rfl rfl)
theorem dX1_begin_41 : decode cX1_begin 41 = .ok (.getfield 199, 3) := dk_180 0 199 (dk_at dksX1_begin_1 18 rfl rfl)
theorem dX1_begin_44 : decode cX1_begin 44 = .ok (.aload 4, 2) := dk_25 4 (dk_at dksX1_begin_1 21 rfl rfl)
theorem dX1_begin_46 : decode cX1_begin 46 = .ok (.getfield 251, 3) := dk_180 0 251 (dk_at dksX1_begin_2 0 rfl rfl)
theorem dX1_begin_49 : decode cX1_begin 49 = .ok (.getfield 199, 3) := dk_180 0 199 (dk_at dksX1_begin_2 3 rfl rfl)
theorem dX1_begin_52 : decode cX1_begin 52 = .ok (.invokeinterface 187 2, 5) := by decide +kernel
theorem dX1_begin_57 : decode cX1_begin 57 = .ok (.pop, 1) := dk_87 (dk_at dksX1_begin_2 11 rfl rfl)
theorem dX1_begin_58 : decode cX1_begin 58 = .ok (.aload 4, 2) := dk_25 4 (dk_at dksX1_begin_2 12 rfl rfl)
theorem dX1_begin_60 : decode cX1_begin 60 = .ok (.getfield 254, 3) := dk_180 0 254 (dk_at dksX1_begin_2 14 rfl rfl)
theorem dX1_begin_63 : decode cX1_begin 63 = .ok (.getfield 199, 3) := dk_180 0 199 (dk_at dksX1_begin_2 17 rfl rfl)
theorem dX1_begin_66 : decode cX1_begin 66 = .ok (.aload 4, 2) := dk_25 4 (dk_at dksX1_begin_2 20 rfl rfl)
theorem dX1_begin_68 : decode cX1_begin 68 = .ok (.getfield 257, 3) := dk_180 1 1 (dk_at dksX1_begin_3 0 rfl rfl)
theorem dX1_begin_71 : decode cX1_begin 71 = .ok (.invokeinterface 76 2, 5) := by decide +kernel
theorem dX1_begin_76 : decode cX1_begin 76 = .ok (.pop, 1) := dk_87 (dk_at dksX1_begin_3 8 rfl rfl)
theorem dX1_begin_77 : decode cX1_begin 77 = .ok (.aload_n 0, 1) := dk_42 (dk_at dksX1_begin_3 9 rfl rfl)
theorem dX1_begin_78 : decode cX1_begin 78 = .ok (.getfield 30, 3) := dk_180 0 30 (dk_at dksX1_begin_3 10 rfl rfl)
theorem dX1_begin_81 : decode cX1_begin 81 = .ok (.aload 4, 2) := dk_25 4 (dk_at dksX1_begin_3 13 rfl rfl)
theorem dX1_begin_83 : decode cX1_begin 83 = .ok (.invokeinterface 76 2, 5) := by decide +kernel
theorem dX1_begin_88 : decode cX1_begin 88 = .ok (.pop, 1) := dk_87 (dk_at dksX1_begin_3 20 rfl rfl)
theorem dX1_begin_89 : decode cX1_begin 89 = .ok (.aload 4, 2) := dk_25 4 (dk_at dksX1_begin_3 21 rfl rfl)
theorem dX1_begin_91 : decode cX1_begin 91 = .ok (.areturn, 1) := dk_176 (dk_at dksX1_begin_3 23 rfl rfl)
abbrev cX1_stop : ByteArray := prog_1_method_32_code
def yX1_stop : MethodName := ⟨RX1, "stop", "(I)I"⟩
def dkwX1_stop_0 : List UInt8 := [42, 42, 27, 182, 1, 23, 182, 1, 26, 42, 180, 0, 30, 185, 0, 105, 1, 0, 172]
abbrev dktX1_stop_0 : List UInt8 := dkwX1_stop_0 ++ []
theorem dksX1_stop_0 : cX1_stop.data.toList.drop 0 = dktX1_stop_0 := by decide +kernel
theorem dX1_stop_0 : decode cX1_stop 0 = .ok (.aload_n 0, 1) := dk_42 (dk_at dksX1_stop_0 0 rfl rfl)
theorem dX1_stop_1 : decode cX1_stop 1 = .ok (.aload_n 0, 1) := dk_42 (dk_at dksX1_stop_0 1 rfl rfl)
theorem dX1_stop_2 : decode cX1_stop 2 = .ok (.iload_n 1, 1) := dk_27 (dk_at dksX1_stop_0 2 rfl rfl)
theorem dX1_stop_3 : decode cX1_stop 3 = .ok (.invokevirtual 279, 3) := dk_182 1 23 (dk_at dksX1_stop_0 3 rfl rfl)
theorem dX1_stop_6 : decode cX1_stop 6 = .ok (.invokevirtual 282, 3) := dk_182 1 26 (dk_at dksX1_stop_0 6 rfl rfl)
theorem dX1_stop_9 : decode cX1_stop 9 = .ok (.aload_n 0, 1) := dk_42 (dk_at dksX1_stop_0 9 rfl rfl)
theorem dX1_stop_10 : decode cX1_stop 10 = .ok (.getfield 30, 3) := dk_180 0 30 (dk_at dksX1_stop_0 10 rfl rfl)
theorem dX1_stop_13 : decode cX1_stop 13 = .ok (.invokeinterface 105 1, 5) := by decide +kernel
theorem dX1_stop_18 : decode cX1_stop 18 = .ok (.ireturn, 1) := dk_172 (dk_at dksX1_stop_0 18 rfl rfl)
abbrev cX1_container : ByteArray := prog_1_method_9_code
def yX1_container : MethodName := ⟨RX1, "container", "(I)LCrateDeck$Container;"⟩
def dkwX1_container_2 : List UInt8 := [185, 0, 109, 2, 0, 192, 0, 113, 176, 132, 2, 1, 167, 255, 206, 187, 0, 102, 89, 183, 0, 104, 191]
abbrev dktX1_container_2 : List UInt8 := dkwX1_container_2 ++ []
def dkwX1_container_1 : List UInt8 := [185, 0, 109, 2, 0, 192, 0, 113, 180, 0, 115, 27, 160, 0, 17, 42, 180, 0, 30, 28]
abbrev dktX1_container_1 : List UInt8 := dkwX1_container_1 ++ dktX1_container_2
def dkwX1_container_0 : List UInt8 := [3, 61, 28, 42, 180, 0, 30, 185, 0, 105, 1, 0, 162, 0, 43, 42, 180, 0, 30, 28]
abbrev dktX1_container_0 : List UInt8 := dkwX1_container_0 ++ dktX1_container_1
theorem dksX1_container_0 : cX1_container.data.toList.drop 0 = dktX1_container_0 := by decide +kernel
theorem dksX1_container_1 : cX1_container.data.toList.drop 20 = dktX1_container_1 := dk_seg dksX1_container_0 20 rfl rfl
theorem dksX1_container_2 : cX1_container.data.toList.drop 40 = dktX1_container_2 := dk_seg dksX1_container_1 20 rfl rfl
theorem dX1_container_0 : decode cX1_container 0 = .ok (.iconst 0, 1) := dk_3 (dk_at dksX1_container_0 0 rfl rfl)
theorem dX1_container_1 : decode cX1_container 1 = .ok (.istore_n 2, 1) := dk_61 (dk_at dksX1_container_0 1 rfl rfl)
theorem dX1_container_2 : decode cX1_container 2 = .ok (.iload_n 2, 1) := dk_28 (dk_at dksX1_container_0 2 rfl rfl)
theorem dX1_container_3 : decode cX1_container 3 = .ok (.aload_n 0, 1) := dk_42 (dk_at dksX1_container_0 3 rfl rfl)
theorem dX1_container_4 : decode cX1_container 4 = .ok (.getfield 30, 3) := dk_180 0 30 (dk_at dksX1_container_0 4 rfl rfl)
theorem dX1_container_7 : decode cX1_container 7 = .ok (.invokeinterface 105 1, 5) := by decide +kernel
theorem dX1_container_12 : decode cX1_container 12 = .ok (.if_icmp .ge 43, 3) := dk_162 0 43 (dk_at dksX1_container_0 12 rfl rfl)
theorem dX1_container_15 : decode cX1_container 15 = .ok (.aload_n 0, 1) := dk_42 (dk_at dksX1_container_0 15 rfl rfl)
theorem dX1_container_16 : decode cX1_container 16 = .ok (.getfield 30, 3) := dk_180 0 30 (dk_at dksX1_container_0 16 rfl rfl)
theorem dX1_container_19 : decode cX1_container 19 = .ok (.iload_n 2, 1) := dk_28 (dk_at dksX1_container_0 19 rfl rfl)
theorem dX1_container_20 : decode cX1_container 20 = .ok (.invokeinterface 109 2, 5) := by decide +kernel
theorem dX1_container_25 : decode cX1_container 25 = .ok (.checkcast 113, 3) := dk_192 0 113 (dk_at dksX1_container_1 5 rfl rfl)
theorem dX1_container_28 : decode cX1_container 28 = .ok (.getfield 115, 3) := dk_180 0 115 (dk_at dksX1_container_1 8 rfl rfl)
theorem dX1_container_31 : decode cX1_container 31 = .ok (.iload_n 1, 1) := dk_27 (dk_at dksX1_container_1 11 rfl rfl)
theorem dX1_container_32 : decode cX1_container 32 = .ok (.if_icmp .ne 17, 3) := dk_160 0 17 (dk_at dksX1_container_1 12 rfl rfl)
theorem dX1_container_35 : decode cX1_container 35 = .ok (.aload_n 0, 1) := dk_42 (dk_at dksX1_container_1 15 rfl rfl)
theorem dX1_container_36 : decode cX1_container 36 = .ok (.getfield 30, 3) := dk_180 0 30 (dk_at dksX1_container_1 16 rfl rfl)
theorem dX1_container_39 : decode cX1_container 39 = .ok (.iload_n 2, 1) := dk_28 (dk_at dksX1_container_1 19 rfl rfl)
theorem dX1_container_40 : decode cX1_container 40 = .ok (.invokeinterface 109 2, 5) := by decide +kernel
theorem dX1_container_45 : decode cX1_container 45 = .ok (.checkcast 113, 3) := dk_192 0 113 (dk_at dksX1_container_2 5 rfl rfl)
theorem dX1_container_48 : decode cX1_container 48 = .ok (.areturn, 1) := dk_176 (dk_at dksX1_container_2 8 rfl rfl)
theorem dX1_container_49 : decode cX1_container 49 = .ok (.iinc 2 1, 3) := dk_132 2 1 (dk_at dksX1_container_2 9 rfl rfl)
theorem dX1_container_52 : decode cX1_container 52 = .ok (.goto (-50), 3) := dk_167 255 206 (dk_at dksX1_container_2 12 rfl rfl)
theorem dX1_container_55 : decode cX1_container 55 = .ok (.new 102, 3) := dk_187 0 102 (dk_at dksX1_container_2 15 rfl rfl)
theorem dX1_container_58 : decode cX1_container 58 = .ok (.dup, 1) := dk_89 (dk_at dksX1_container_2 18 rfl rfl)
theorem dX1_container_59 : decode cX1_container 59 = .ok (.invokespecial 104, 3) := dk_183 0 104 (dk_at dksX1_container_2 19 rfl rfl)
theorem dX1_container_62 : decode cX1_container 62 = .ok (.athrow, 1) := dk_191 (dk_at dksX1_container_2 22 rfl rfl)
abbrev cX1_end : ByteArray := prog_1_method_31_code
def yX1_end : MethodName := ⟨RX1, "end", "(LCrateDeck$Container;)V"⟩
def dkwX1_end_5 : List UInt8 := [167, 0, 9, 42, 180, 0, 49, 28, 50, 83, 132, 2, 1, 167, 255, 196, 177]
abbrev dktX1_end_5 : List UInt8 := dkwX1_end_5 ++ []
def dkwX1_end_4 : List UInt8 := [180, 0, 115, 160, 0, 7, 4, 167, 0, 4, 3, 62, 42, 180, 0, 49, 28, 29, 153, 0, 7, 1]
abbrev dktX1_end_4 : List UInt8 := dkwX1_end_4 ++ dktX1_end_5
def dkwX1_end_3 : List UInt8 := [16, 100, 162, 0, 60, 42, 180, 0, 49, 28, 50, 198, 0, 23, 42, 180, 0, 49, 28, 50, 180, 1, 22, 43]
abbrev dktX1_end_3 : List UInt8 := dkwX1_end_3 ++ dktX1_end_4
def dkwX1_end_2 : List UInt8 := [160, 0, 14, 42, 180, 0, 44, 28, 185, 1, 20, 2, 0, 87, 132, 2, 255, 167, 255, 215, 3, 61, 28]
abbrev dktX1_end_2 : List UInt8 := dkwX1_end_2 ++ dktX1_end_3
def dkwX1_end_1 : List UInt8 := [155, 0, 43, 42, 180, 0, 44, 28, 185, 0, 109, 2, 0, 192, 0, 119, 180, 1, 17, 43, 180, 0, 115]
abbrev dktX1_end_1 : List UInt8 := dkwX1_end_1 ++ dktX1_end_2
def dkwX1_end_0 : List UInt8 := [42, 180, 0, 30, 43, 185, 1, 14, 2, 0, 87, 42, 180, 0, 44, 185, 0, 105, 1, 0, 4, 100, 61, 28]
abbrev dktX1_end_0 : List UInt8 := dkwX1_end_0 ++ dktX1_end_1
theorem dksX1_end_0 : cX1_end.data.toList.drop 0 = dktX1_end_0 := by decide +kernel
theorem dksX1_end_1 : cX1_end.data.toList.drop 24 = dktX1_end_1 := dk_seg dksX1_end_0 24 rfl rfl
theorem dksX1_end_2 : cX1_end.data.toList.drop 47 = dktX1_end_2 := dk_seg dksX1_end_1 23 rfl rfl
theorem dksX1_end_3 : cX1_end.data.toList.drop 70 = dktX1_end_3 := dk_seg dksX1_end_2 23 rfl rfl
theorem dksX1_end_4 : cX1_end.data.toList.drop 94 = dktX1_end_4 := dk_seg dksX1_end_3 24 rfl rfl
theorem dksX1_end_5 : cX1_end.data.toList.drop 116 = dktX1_end_5 := dk_seg dksX1_end_4 22 rfl rfl
theorem dX1_end_0 : decode cX1_end 0 = .ok (.aload_n 0, 1) := dk_42 (dk_at dksX1_end_0 0 rfl rfl)
theorem dX1_end_1 : decode cX1_end 1 = .ok (.getfield 30, 3) := dk_180 0 30 (dk_at dksX1_end_0 1 rfl rfl)
theorem dX1_end_4 : decode cX1_end 4 = .ok (.aload_n 1, 1) := dk_43 (dk_at dksX1_end_0 4 rfl rfl)
theorem dX1_end_5 : decode cX1_end 5 = .ok (.invokeinterface 270 2, 5) := by decide +kernel
theorem dX1_end_10 : decode cX1_end 10 = .ok (.pop, 1) := dk_87 (dk_at dksX1_end_0 10 rfl rfl)
theorem dX1_end_11 : decode cX1_end 11 = .ok (.aload_n 0, 1) := dk_42 (dk_at dksX1_end_0 11 rfl rfl)
theorem dX1_end_12 : decode cX1_end 12 = .ok (.getfield 44, 3) := dk_180 0 44 (dk_at dksX1_end_0 12 rfl rfl)
theorem dX1_end_15 : decode cX1_end 15 = .ok (.invokeinterface 105 1, 5) := by decide +kernel
theorem dX1_end_20 : decode cX1_end 20 = .ok (.iconst 1, 1) := dk_4 (dk_at dksX1_end_0 20 rfl rfl)
theorem dX1_end_21 : decode cX1_end 21 = .ok (.isub, 1) := dk_100 (dk_at dksX1_end_0 21 rfl rfl)
theorem dX1_end_22 : decode cX1_end 22 = .ok (.istore_n 2, 1) := dk_61 (dk_at dksX1_end_0 22 rfl rfl)
theorem dX1_end_23 : decode cX1_end 23 = .ok (.iload_n 2, 1) := dk_28 (dk_at dksX1_end_0 23 rfl rfl)
theorem dX1_end_24 : decode cX1_end 24 = .ok (.ifCond .lt 43, 3) := dk_155 0 43 (dk_at dksX1_end_1 0 rfl rfl)
theorem dX1_end_27 : decode cX1_end 27 = .ok (.aload_n 0, 1) := dk_42 (dk_at dksX1_end_1 3 rfl rfl)
theorem dX1_end_28 : decode cX1_end 28 = .ok (.getfield 44, 3) := dk_180 0 44 (dk_at dksX1_end_1 4 rfl rfl)
theorem dX1_end_31 : decode cX1_end 31 = .ok (.iload_n 2, 1) := dk_28 (dk_at dksX1_end_1 7 rfl rfl)
theorem dX1_end_32 : decode cX1_end 32 = .ok (.invokeinterface 109 2, 5) := by decide +kernel
theorem dX1_end_37 : decode cX1_end 37 = .ok (.checkcast 119, 3) := dk_192 0 119 (dk_at dksX1_end_1 13 rfl rfl)
theorem dX1_end_40 : decode cX1_end 40 = .ok (.getfield 273, 3) := dk_180 1 17 (dk_at dksX1_end_1 16 rfl rfl)
theorem dX1_end_43 : decode cX1_end 43 = .ok (.aload_n 1, 1) := dk_43 (dk_at dksX1_end_1 19 rfl rfl)
theorem dX1_end_44 : decode cX1_end 44 = .ok (.getfield 115, 3) := dk_180 0 115 (dk_at dksX1_end_1 20 rfl rfl)
theorem dX1_end_47 : decode cX1_end 47 = .ok (.if_icmp .ne 14, 3) := dk_160 0 14 (dk_at dksX1_end_2 0 rfl rfl)
theorem dX1_end_50 : decode cX1_end 50 = .ok (.aload_n 0, 1) := dk_42 (dk_at dksX1_end_2 3 rfl rfl)
theorem dX1_end_51 : decode cX1_end 51 = .ok (.getfield 44, 3) := dk_180 0 44 (dk_at dksX1_end_2 4 rfl rfl)
theorem dX1_end_54 : decode cX1_end 54 = .ok (.iload_n 2, 1) := dk_28 (dk_at dksX1_end_2 7 rfl rfl)
theorem dX1_end_55 : decode cX1_end 55 = .ok (.invokeinterface 276 2, 5) := by decide +kernel
theorem dX1_end_60 : decode cX1_end 60 = .ok (.pop, 1) := dk_87 (dk_at dksX1_end_2 13 rfl rfl)
theorem dX1_end_61 : decode cX1_end 61 = .ok (.iinc 2 (-1), 3) := dk_132 2 255 (dk_at dksX1_end_2 14 rfl rfl)
theorem dX1_end_64 : decode cX1_end 64 = .ok (.goto (-41), 3) := dk_167 255 215 (dk_at dksX1_end_2 17 rfl rfl)
theorem dX1_end_67 : decode cX1_end 67 = .ok (.iconst 0, 1) := dk_3 (dk_at dksX1_end_2 20 rfl rfl)
theorem dX1_end_68 : decode cX1_end 68 = .ok (.istore_n 2, 1) := dk_61 (dk_at dksX1_end_2 21 rfl rfl)
theorem dX1_end_69 : decode cX1_end 69 = .ok (.iload_n 2, 1) := dk_28 (dk_at dksX1_end_2 22 rfl rfl)
theorem dX1_end_70 : decode cX1_end 70 = .ok (.bipush 100, 2) := dk_16 100 (dk_at dksX1_end_3 0 rfl rfl)
theorem dX1_end_72 : decode cX1_end 72 = .ok (.if_icmp .ge 60, 3) := dk_162 0 60 (dk_at dksX1_end_3 2 rfl rfl)
theorem dX1_end_75 : decode cX1_end 75 = .ok (.aload_n 0, 1) := dk_42 (dk_at dksX1_end_3 5 rfl rfl)
theorem dX1_end_76 : decode cX1_end 76 = .ok (.getfield 49, 3) := dk_180 0 49 (dk_at dksX1_end_3 6 rfl rfl)
theorem dX1_end_79 : decode cX1_end 79 = .ok (.iload_n 2, 1) := dk_28 (dk_at dksX1_end_3 9 rfl rfl)
theorem dX1_end_80 : decode cX1_end 80 = .ok (.aaload, 1) := dk_50 (dk_at dksX1_end_3 10 rfl rfl)
theorem dX1_end_81 : decode cX1_end 81 = .ok (.ifnull 23, 3) := dk_198 0 23 (dk_at dksX1_end_3 11 rfl rfl)
theorem dX1_end_84 : decode cX1_end 84 = .ok (.aload_n 0, 1) := dk_42 (dk_at dksX1_end_3 14 rfl rfl)
theorem dX1_end_85 : decode cX1_end 85 = .ok (.getfield 49, 3) := dk_180 0 49 (dk_at dksX1_end_3 15 rfl rfl)
theorem dX1_end_88 : decode cX1_end 88 = .ok (.iload_n 2, 1) := dk_28 (dk_at dksX1_end_3 18 rfl rfl)
theorem dX1_end_89 : decode cX1_end 89 = .ok (.aaload, 1) := dk_50 (dk_at dksX1_end_3 19 rfl rfl)
theorem dX1_end_90 : decode cX1_end 90 = .ok (.getfield 278, 3) := dk_180 1 22 (dk_at dksX1_end_3 20 rfl rfl)
theorem dX1_end_93 : decode cX1_end 93 = .ok (.aload_n 1, 1) := dk_43 (dk_at dksX1_end_3 23 rfl rfl)
theorem dX1_end_94 : decode cX1_end 94 = .ok (.getfield 115, 3) := dk_180 0 115 (dk_at dksX1_end_4 0 rfl rfl)
theorem dX1_end_97 : decode cX1_end 97 = .ok (.if_icmp .ne 7, 3) := dk_160 0 7 (dk_at dksX1_end_4 3 rfl rfl)
theorem dX1_end_100 : decode cX1_end 100 = .ok (.iconst 1, 1) := dk_4 (dk_at dksX1_end_4 6 rfl rfl)
theorem dX1_end_101 : decode cX1_end 101 = .ok (.goto 4, 3) := dk_167 0 4 (dk_at dksX1_end_4 7 rfl rfl)
theorem dX1_end_104 : decode cX1_end 104 = .ok (.iconst 0, 1) := dk_3 (dk_at dksX1_end_4 10 rfl rfl)
theorem dX1_end_105 : decode cX1_end 105 = .ok (.istore_n 3, 1) := dk_62 (dk_at dksX1_end_4 11 rfl rfl)
theorem dX1_end_106 : decode cX1_end 106 = .ok (.aload_n 0, 1) := dk_42 (dk_at dksX1_end_4 12 rfl rfl)
theorem dX1_end_107 : decode cX1_end 107 = .ok (.getfield 49, 3) := dk_180 0 49 (dk_at dksX1_end_4 13 rfl rfl)
theorem dX1_end_110 : decode cX1_end 110 = .ok (.iload_n 2, 1) := dk_28 (dk_at dksX1_end_4 16 rfl rfl)
theorem dX1_end_111 : decode cX1_end 111 = .ok (.iload_n 3, 1) := dk_29 (dk_at dksX1_end_4 17 rfl rfl)
theorem dX1_end_112 : decode cX1_end 112 = .ok (.ifCond .eq 7, 3) := dk_153 0 7 (dk_at dksX1_end_4 18 rfl rfl)
theorem dX1_end_115 : decode cX1_end 115 = .ok (.aconst_null, 1) := dk_1 (dk_at dksX1_end_4 21 rfl rfl)
theorem dX1_end_116 : decode cX1_end 116 = .ok (.goto 9, 3) := dk_167 0 9 (dk_at dksX1_end_5 0 rfl rfl)
theorem dX1_end_119 : decode cX1_end 119 = .ok (.aload_n 0, 1) := dk_42 (dk_at dksX1_end_5 3 rfl rfl)
theorem dX1_end_120 : decode cX1_end 120 = .ok (.getfield 49, 3) := dk_180 0 49 (dk_at dksX1_end_5 4 rfl rfl)
theorem dX1_end_123 : decode cX1_end 123 = .ok (.iload_n 2, 1) := dk_28 (dk_at dksX1_end_5 7 rfl rfl)
theorem dX1_end_124 : decode cX1_end 124 = .ok (.aaload, 1) := dk_50 (dk_at dksX1_end_5 8 rfl rfl)
theorem dX1_end_125 : decode cX1_end 125 = .ok (.aastore, 1) := dk_83 (dk_at dksX1_end_5 9 rfl rfl)
theorem dX1_end_126 : decode cX1_end 126 = .ok (.iinc 2 1, 3) := dk_132 2 1 (dk_at dksX1_end_5 10 rfl rfl)
theorem dX1_end_129 : decode cX1_end 129 = .ok (.goto (-60), 3) := dk_167 255 196 (dk_at dksX1_end_5 13 rfl rfl)
theorem dX1_end_132 : decode cX1_end 132 = .ok (.return_, 1) := dk_177 (dk_at dksX1_end_5 16 rfl rfl)
abbrev cX1_container_2 : ByteArray := prog_1_method_34_code
def yX1_container_2 : MethodName := ⟨RX1, "container", "(II)I"⟩
def dkwX1_container_2_4 : List UInt8 := [167, 0, 4, 3, 172]
abbrev dktX1_container_2_4 : List UInt8 := dkwX1_container_2_4 ++ []
def dkwX1_container_2_3 : List UInt8 := [185, 0, 105, 1, 0, 167, 0, 23, 42, 27, 182, 1, 36, 167, 0, 15, 45, 180, 1, 39, 153, 0, 7, 4]
abbrev dktX1_container_2_3 : List UInt8 := dkwX1_container_2_3 ++ dktX1_container_2_4
def dkwX1_container_2_2 : List UInt8 := [45, 180, 1, 30, 167, 0, 45, 45, 180, 1, 33, 167, 0, 38, 45, 180, 1, 1, 180, 0, 133]
abbrev dktX1_container_2_2 : List UInt8 := dkwX1_container_2_2 ++ dktX1_container_2_3
def dkwX1_container_2_1 : List UInt8 := [170, 0, 0, 0, 0, 0, 68, 0, 0, 0, 0, 0, 0, 0, 3, 0, 0, 0, 31, 0, 0, 0, 38, 0, 0, 0, 45, 0, 0, 0, 60]
abbrev dktX1_container_2_1 : List UInt8 := dkwX1_container_2_1 ++ dktX1_container_2_2
def dkwX1_container_2_0 : List UInt8 := [42, 27, 182, 1, 23, 78, 28, 3, 7, 184, 0, 125, 28]
abbrev dktX1_container_2_0 : List UInt8 := dkwX1_container_2_0 ++ dktX1_container_2_1
theorem dksX1_container_2_0 : cX1_container_2.data.toList.drop 0 = dktX1_container_2_0 := by decide +kernel
theorem dksX1_container_2_1 : cX1_container_2.data.toList.drop 13 = dktX1_container_2_1 := dk_seg dksX1_container_2_0 13 rfl rfl
theorem dksX1_container_2_2 : cX1_container_2.data.toList.drop 44 = dktX1_container_2_2 := dk_seg dksX1_container_2_1 31 rfl rfl
theorem dksX1_container_2_3 : cX1_container_2.data.toList.drop 65 = dktX1_container_2_3 := dk_seg dksX1_container_2_2 21 rfl rfl
theorem dksX1_container_2_4 : cX1_container_2.data.toList.drop 89 = dktX1_container_2_4 := dk_seg dksX1_container_2_3 24 rfl rfl
theorem dX1_container_2_0 : decode cX1_container_2 0 = .ok (.aload_n 0, 1) := dk_42 (dk_at dksX1_container_2_0 0 rfl rfl)
theorem dX1_container_2_1 : decode cX1_container_2 1 = .ok (.iload_n 1, 1) := dk_27 (dk_at dksX1_container_2_0 1 rfl rfl)
theorem dX1_container_2_2 : decode cX1_container_2 2 = .ok (.invokevirtual 279, 3) := dk_182 1 23 (dk_at dksX1_container_2_0 2 rfl rfl)
theorem dX1_container_2_5 : decode cX1_container_2 5 = .ok (.astore_n 3, 1) := dk_78 (dk_at dksX1_container_2_0 5 rfl rfl)
theorem dX1_container_2_6 : decode cX1_container_2 6 = .ok (.iload_n 2, 1) := dk_28 (dk_at dksX1_container_2_0 6 rfl rfl)
theorem dX1_container_2_7 : decode cX1_container_2 7 = .ok (.iconst 0, 1) := dk_3 (dk_at dksX1_container_2_0 7 rfl rfl)
theorem dX1_container_2_8 : decode cX1_container_2 8 = .ok (.iconst 4, 1) := dk_7 (dk_at dksX1_container_2_0 8 rfl rfl)
theorem dX1_container_2_9 : decode cX1_container_2 9 = .ok (.invokestatic 125, 3) := dk_184 0 125 (dk_at dksX1_container_2_0 9 rfl rfl)
theorem dX1_container_2_12 : decode cX1_container_2 12 = .ok (.iload_n 2, 1) := dk_28 (dk_at dksX1_container_2_0 12 rfl rfl)
theorem dX1_container_2_13 : decode cX1_container_2 13 = .ok (.tableswitch 68 0 3 #[31, 38, 45, 60], 31) := by decide +kernel
theorem dX1_container_2_44 : decode cX1_container_2 44 = .ok (.aload_n 3, 1) := dk_45 (dk_at dksX1_container_2_2 0 rfl rfl)
theorem dX1_container_2_45 : decode cX1_container_2 45 = .ok (.getfield 286, 3) := dk_180 1 30 (dk_at dksX1_container_2_2 1 rfl rfl)
theorem dX1_container_2_48 : decode cX1_container_2 48 = .ok (.goto 45, 3) := dk_167 0 45 (dk_at dksX1_container_2_2 4 rfl rfl)
theorem dX1_container_2_51 : decode cX1_container_2 51 = .ok (.aload_n 3, 1) := dk_45 (dk_at dksX1_container_2_2 7 rfl rfl)
theorem dX1_container_2_52 : decode cX1_container_2 52 = .ok (.getfield 289, 3) := dk_180 1 33 (dk_at dksX1_container_2_2 8 rfl rfl)
theorem dX1_container_2_55 : decode cX1_container_2 55 = .ok (.goto 38, 3) := dk_167 0 38 (dk_at dksX1_container_2_2 11 rfl rfl)
theorem dX1_container_2_58 : decode cX1_container_2 58 = .ok (.aload_n 3, 1) := dk_45 (dk_at dksX1_container_2_2 14 rfl rfl)
theorem dX1_container_2_59 : decode cX1_container_2 59 = .ok (.getfield 257, 3) := dk_180 1 1 (dk_at dksX1_container_2_2 15 rfl rfl)
theorem dX1_container_2_62 : decode cX1_container_2 62 = .ok (.getfield 133, 3) := dk_180 0 133 (dk_at dksX1_container_2_2 18 rfl rfl)
theorem dX1_container_2_65 : decode cX1_container_2 65 = .ok (.invokeinterface 105 1, 5) := by decide +kernel
theorem dX1_container_2_70 : decode cX1_container_2 70 = .ok (.goto 23, 3) := dk_167 0 23 (dk_at dksX1_container_2_3 5 rfl rfl)
theorem dX1_container_2_73 : decode cX1_container_2 73 = .ok (.aload_n 0, 1) := dk_42 (dk_at dksX1_container_2_3 8 rfl rfl)
theorem dX1_container_2_74 : decode cX1_container_2 74 = .ok (.iload_n 1, 1) := dk_27 (dk_at dksX1_container_2_3 9 rfl rfl)
theorem dX1_container_2_75 : decode cX1_container_2 75 = .ok (.invokevirtual 292, 3) := dk_182 1 36 (dk_at dksX1_container_2_3 10 rfl rfl)
theorem dX1_container_2_78 : decode cX1_container_2 78 = .ok (.goto 15, 3) := dk_167 0 15 (dk_at dksX1_container_2_3 13 rfl rfl)
theorem dX1_container_2_81 : decode cX1_container_2 81 = .ok (.aload_n 3, 1) := dk_45 (dk_at dksX1_container_2_3 16 rfl rfl)
theorem dX1_container_2_82 : decode cX1_container_2 82 = .ok (.getfield 295, 3) := dk_180 1 39 (dk_at dksX1_container_2_3 17 rfl rfl)
theorem dX1_container_2_85 : decode cX1_container_2 85 = .ok (.ifCond .eq 7, 3) := dk_153 0 7 (dk_at dksX1_container_2_3 20 rfl rfl)
theorem dX1_container_2_88 : decode cX1_container_2 88 = .ok (.iconst 1, 1) := dk_4 (dk_at dksX1_container_2_3 23 rfl rfl)
theorem dX1_container_2_89 : decode cX1_container_2 89 = .ok (.goto 4, 3) := dk_167 0 4 (dk_at dksX1_container_2_4 0 rfl rfl)
theorem dX1_container_2_92 : decode cX1_container_2 92 = .ok (.iconst 0, 1) := dk_3 (dk_at dksX1_container_2_4 3 rfl rfl)
theorem dX1_container_2_93 : decode cX1_container_2 93 = .ok (.ireturn, 1) := dk_172 (dk_at dksX1_container_2_4 4 rfl rfl)
abbrev cX1_manyProcesses : ByteArray := prog_1_method_33_code
def yX1_manyProcesses : MethodName := ⟨RX1, "manyProcesses", "(I)I"⟩
def dkwX1_manyProcesses_2 : List UInt8 := [132, 3, 1, 167, 255, 212, 28, 172]
abbrev dktX1_manyProcesses_2 : List UInt8 := dkwX1_manyProcesses_2 ++ []
def dkwX1_manyProcesses_1 : List UInt8 := [185, 0, 109, 2, 0, 192, 0, 119, 180, 1, 17, 27, 160, 0, 7, 4, 167, 0, 4, 3, 96, 61]
abbrev dktX1_manyProcesses_1 : List UInt8 := dkwX1_manyProcesses_1 ++ dktX1_manyProcesses_2
def dkwX1_manyProcesses_0 : List UInt8 := [3, 61, 3, 62, 29, 42, 180, 0, 44, 185, 0, 105, 1, 0, 162, 0, 37, 28, 42, 180, 0, 44, 29]
abbrev dktX1_manyProcesses_0 : List UInt8 := dkwX1_manyProcesses_0 ++ dktX1_manyProcesses_1
theorem dksX1_manyProcesses_0 : cX1_manyProcesses.data.toList.drop 0 = dktX1_manyProcesses_0 := by decide +kernel
theorem dksX1_manyProcesses_1 : cX1_manyProcesses.data.toList.drop 23 = dktX1_manyProcesses_1 := dk_seg dksX1_manyProcesses_0 23 rfl rfl
theorem dksX1_manyProcesses_2 : cX1_manyProcesses.data.toList.drop 45 = dktX1_manyProcesses_2 := dk_seg dksX1_manyProcesses_1 22 rfl rfl
theorem dX1_manyProcesses_0 : decode cX1_manyProcesses 0 = .ok (.iconst 0, 1) := dk_3 (dk_at dksX1_manyProcesses_0 0 rfl rfl)
theorem dX1_manyProcesses_1 : decode cX1_manyProcesses 1 = .ok (.istore_n 2, 1) := dk_61 (dk_at dksX1_manyProcesses_0 1 rfl rfl)
theorem dX1_manyProcesses_2 : decode cX1_manyProcesses 2 = .ok (.iconst 0, 1) := dk_3 (dk_at dksX1_manyProcesses_0 2 rfl rfl)
theorem dX1_manyProcesses_3 : decode cX1_manyProcesses 3 = .ok (.istore_n 3, 1) := dk_62 (dk_at dksX1_manyProcesses_0 3 rfl rfl)
theorem dX1_manyProcesses_4 : decode cX1_manyProcesses 4 = .ok (.iload_n 3, 1) := dk_29 (dk_at dksX1_manyProcesses_0 4 rfl rfl)
theorem dX1_manyProcesses_5 : decode cX1_manyProcesses 5 = .ok (.aload_n 0, 1) := dk_42 (dk_at dksX1_manyProcesses_0 5 rfl rfl)
theorem dX1_manyProcesses_6 : decode cX1_manyProcesses 6 = .ok (.getfield 44, 3) := dk_180 0 44 (dk_at dksX1_manyProcesses_0 6 rfl rfl)
theorem dX1_manyProcesses_9 : decode cX1_manyProcesses 9 = .ok (.invokeinterface 105 1, 5) := by decide +kernel
theorem dX1_manyProcesses_14 : decode cX1_manyProcesses 14 = .ok (.if_icmp .ge 37, 3) := dk_162 0 37 (dk_at dksX1_manyProcesses_0 14 rfl rfl)
theorem dX1_manyProcesses_17 : decode cX1_manyProcesses 17 = .ok (.iload_n 2, 1) := dk_28 (dk_at dksX1_manyProcesses_0 17 rfl rfl)
theorem dX1_manyProcesses_18 : decode cX1_manyProcesses 18 = .ok (.aload_n 0, 1) := dk_42 (dk_at dksX1_manyProcesses_0 18 rfl rfl)
theorem dX1_manyProcesses_19 : decode cX1_manyProcesses 19 = .ok (.getfield 44, 3) := dk_180 0 44 (dk_at dksX1_manyProcesses_0 19 rfl rfl)
theorem dX1_manyProcesses_22 : decode cX1_manyProcesses 22 = .ok (.iload_n 3, 1) := dk_29 (dk_at dksX1_manyProcesses_0 22 rfl rfl)
theorem dX1_manyProcesses_23 : decode cX1_manyProcesses 23 = .ok (.invokeinterface 109 2, 5) := by decide +kernel
theorem dX1_manyProcesses_28 : decode cX1_manyProcesses 28 = .ok (.checkcast 119, 3) := dk_192 0 119 (dk_at dksX1_manyProcesses_1 5 rfl rfl)
theorem dX1_manyProcesses_31 : decode cX1_manyProcesses 31 = .ok (.getfield 273, 3) := dk_180 1 17 (dk_at dksX1_manyProcesses_1 8 rfl rfl)
theorem dX1_manyProcesses_34 : decode cX1_manyProcesses 34 = .ok (.iload_n 1, 1) := dk_27 (dk_at dksX1_manyProcesses_1 11 rfl rfl)
theorem dX1_manyProcesses_35 : decode cX1_manyProcesses 35 = .ok (.if_icmp .ne 7, 3) := dk_160 0 7 (dk_at dksX1_manyProcesses_1 12 rfl rfl)
theorem dX1_manyProcesses_38 : decode cX1_manyProcesses 38 = .ok (.iconst 1, 1) := dk_4 (dk_at dksX1_manyProcesses_1 15 rfl rfl)
theorem dX1_manyProcesses_39 : decode cX1_manyProcesses 39 = .ok (.goto 4, 3) := dk_167 0 4 (dk_at dksX1_manyProcesses_1 16 rfl rfl)
theorem dX1_manyProcesses_42 : decode cX1_manyProcesses 42 = .ok (.iconst 0, 1) := dk_3 (dk_at dksX1_manyProcesses_1 19 rfl rfl)
theorem dX1_manyProcesses_43 : decode cX1_manyProcesses 43 = .ok (.iadd, 1) := dk_96 (dk_at dksX1_manyProcesses_1 20 rfl rfl)
theorem dX1_manyProcesses_44 : decode cX1_manyProcesses 44 = .ok (.istore_n 2, 1) := dk_61 (dk_at dksX1_manyProcesses_1 21 rfl rfl)
theorem dX1_manyProcesses_45 : decode cX1_manyProcesses 45 = .ok (.iinc 3 1, 3) := dk_132 3 1 (dk_at dksX1_manyProcesses_2 0 rfl rfl)
theorem dX1_manyProcesses_48 : decode cX1_manyProcesses 48 = .ok (.goto (-44), 3) := dk_167 255 212 (dk_at dksX1_manyProcesses_2 3 rfl rfl)
theorem dX1_manyProcesses_51 : decode cX1_manyProcesses 51 = .ok (.iload_n 2, 1) := dk_28 (dk_at dksX1_manyProcesses_2 6 rfl rfl)
theorem dX1_manyProcesses_52 : decode cX1_manyProcesses 52 = .ok (.ireturn, 1) := dk_172 (dk_at dksX1_manyProcesses_2 7 rfl rfl)
abbrev cX1_look : ByteArray := prog_1_method_36_code
def yX1_look : MethodName := ⟨RX1, "look", "(II)I"⟩
def dkwX1_look_0 : List UInt8 := [42, 27, 182, 1, 23, 78, 28, 184, 0, 122, 42, 45, 28, 182, 1, 53, 172]
abbrev dktX1_look_0 : List UInt8 := dkwX1_look_0 ++ []
theorem dksX1_look_0 : cX1_look.data.toList.drop 0 = dktX1_look_0 := by decide +kernel
theorem dX1_look_0 : decode cX1_look 0 = .ok (.aload_n 0, 1) := dk_42 (dk_at dksX1_look_0 0 rfl rfl)
theorem dX1_look_1 : decode cX1_look 1 = .ok (.iload_n 1, 1) := dk_27 (dk_at dksX1_look_0 1 rfl rfl)
theorem dX1_look_2 : decode cX1_look 2 = .ok (.invokevirtual 279, 3) := dk_182 1 23 (dk_at dksX1_look_0 2 rfl rfl)
theorem dX1_look_5 : decode cX1_look 5 = .ok (.astore_n 3, 1) := dk_78 (dk_at dksX1_look_0 5 rfl rfl)
theorem dX1_look_6 : decode cX1_look 6 = .ok (.iload_n 2, 1) := dk_28 (dk_at dksX1_look_0 6 rfl rfl)
theorem dX1_look_7 : decode cX1_look 7 = .ok (.invokestatic 122, 3) := dk_184 0 122 (dk_at dksX1_look_0 7 rfl rfl)
theorem dX1_look_10 : decode cX1_look 10 = .ok (.aload_n 0, 1) := dk_42 (dk_at dksX1_look_0 10 rfl rfl)
theorem dX1_look_11 : decode cX1_look 11 = .ok (.aload_n 3, 1) := dk_45 (dk_at dksX1_look_0 11 rfl rfl)
theorem dX1_look_12 : decode cX1_look 12 = .ok (.iload_n 2, 1) := dk_28 (dk_at dksX1_look_0 12 rfl rfl)
theorem dX1_look_13 : decode cX1_look 13 = .ok (.invokevirtual 309, 3) := dk_182 1 53 (dk_at dksX1_look_0 13 rfl rfl)
theorem dX1_look_16 : decode cX1_look 16 = .ok (.ireturn, 1) := dk_172 (dk_at dksX1_look_0 16 rfl rfl)
abbrev cX1_shown : ByteArray := prog_1_method_35_code
def yX1_shown : MethodName := ⟨RX1, "shown", "(LCrateDeck$Container;I)I"⟩
def dkwX1_shown_3 : List UInt8 := [160, 0, 7, 3, 167, 0, 8, 16, 10, 21, 4, 96, 172]
abbrev dktX1_shown_3 : List UInt8 := dkwX1_shown_3 ++ []
def dkwX1_shown_2 : List UInt8 := [180, 0, 35, 45, 182, 1, 50, 50, 28, 16, 10, 112, 46, 167, 0, 4, 2, 54, 4, 21, 4, 2]
abbrev dktX1_shown_2 : List UInt8 := dkwX1_shown_2 ++ dktX1_shown_3
def dkwX1_shown_1 : List UInt8 := [172, 28, 45, 182, 1, 47, 160, 0, 5, 5, 172, 28, 16, 10, 108, 45, 182, 1, 47, 160, 0, 20, 42]
abbrev dktX1_shown_1 : List UInt8 := dkwX1_shown_1 ++ dktX1_shown_2
def dkwX1_shown_0 : List UInt8 := [28, 154, 0, 5, 5, 172, 43, 28, 182, 1, 43, 78, 45, 199, 0, 12, 43, 180, 0, 254, 28, 182, 0, 207]
abbrev dktX1_shown_0 : List UInt8 := dkwX1_shown_0 ++ dktX1_shown_1
theorem dksX1_shown_0 : cX1_shown.data.toList.drop 0 = dktX1_shown_0 := by decide +kernel
theorem dksX1_shown_1 : cX1_shown.data.toList.drop 24 = dktX1_shown_1 := dk_seg dksX1_shown_0 24 rfl rfl
theorem dksX1_shown_2 : cX1_shown.data.toList.drop 47 = dktX1_shown_2 := dk_seg dksX1_shown_1 23 rfl rfl
theorem dksX1_shown_3 : cX1_shown.data.toList.drop 69 = dktX1_shown_3 := dk_seg dksX1_shown_2 22 rfl rfl
theorem dX1_shown_0 : decode cX1_shown 0 = .ok (.iload_n 2, 1) := dk_28 (dk_at dksX1_shown_0 0 rfl rfl)
theorem dX1_shown_1 : decode cX1_shown 1 = .ok (.ifCond .ne 5, 3) := dk_154 0 5 (dk_at dksX1_shown_0 1 rfl rfl)
theorem dX1_shown_4 : decode cX1_shown 4 = .ok (.iconst 2, 1) := dk_5 (dk_at dksX1_shown_0 4 rfl rfl)
theorem dX1_shown_5 : decode cX1_shown 5 = .ok (.ireturn, 1) := dk_172 (dk_at dksX1_shown_0 5 rfl rfl)
theorem dX1_shown_6 : decode cX1_shown 6 = .ok (.aload_n 1, 1) := dk_43 (dk_at dksX1_shown_0 6 rfl rfl)
theorem dX1_shown_7 : decode cX1_shown 7 = .ok (.iload_n 2, 1) := dk_28 (dk_at dksX1_shown_0 7 rfl rfl)
theorem dX1_shown_8 : decode cX1_shown 8 = .ok (.invokevirtual 299, 3) := dk_182 1 43 (dk_at dksX1_shown_0 8 rfl rfl)
theorem dX1_shown_11 : decode cX1_shown 11 = .ok (.astore_n 3, 1) := dk_78 (dk_at dksX1_shown_0 11 rfl rfl)
theorem dX1_shown_12 : decode cX1_shown 12 = .ok (.aload_n 3, 1) := dk_45 (dk_at dksX1_shown_0 12 rfl rfl)
theorem dX1_shown_13 : decode cX1_shown 13 = .ok (.ifnonnull 12, 3) := dk_199 0 12 (dk_at dksX1_shown_0 13 rfl rfl)
theorem dX1_shown_16 : decode cX1_shown 16 = .ok (.aload_n 1, 1) := dk_43 (dk_at dksX1_shown_0 16 rfl rfl)
theorem dX1_shown_17 : decode cX1_shown 17 = .ok (.getfield 254, 3) := dk_180 0 254 (dk_at dksX1_shown_0 17 rfl rfl)
theorem dX1_shown_20 : decode cX1_shown 20 = .ok (.iload_n 2, 1) := dk_28 (dk_at dksX1_shown_0 20 rfl rfl)
theorem dX1_shown_21 : decode cX1_shown 21 = .ok (.invokevirtual 207, 3) := dk_182 0 207 (dk_at dksX1_shown_0 21 rfl rfl)
theorem dX1_shown_24 : decode cX1_shown 24 = .ok (.ireturn, 1) := dk_172 (dk_at dksX1_shown_1 0 rfl rfl)
theorem dX1_shown_25 : decode cX1_shown 25 = .ok (.iload_n 2, 1) := dk_28 (dk_at dksX1_shown_1 1 rfl rfl)
theorem dX1_shown_26 : decode cX1_shown 26 = .ok (.aload_n 3, 1) := dk_45 (dk_at dksX1_shown_1 2 rfl rfl)
theorem dX1_shown_27 : decode cX1_shown 27 = .ok (.invokevirtual 303, 3) := dk_182 1 47 (dk_at dksX1_shown_1 3 rfl rfl)
theorem dX1_shown_30 : decode cX1_shown 30 = .ok (.if_icmp .ne 5, 3) := dk_160 0 5 (dk_at dksX1_shown_1 6 rfl rfl)
theorem dX1_shown_33 : decode cX1_shown 33 = .ok (.iconst 2, 1) := dk_5 (dk_at dksX1_shown_1 9 rfl rfl)
theorem dX1_shown_34 : decode cX1_shown 34 = .ok (.ireturn, 1) := dk_172 (dk_at dksX1_shown_1 10 rfl rfl)
theorem dX1_shown_35 : decode cX1_shown 35 = .ok (.iload_n 2, 1) := dk_28 (dk_at dksX1_shown_1 11 rfl rfl)
theorem dX1_shown_36 : decode cX1_shown 36 = .ok (.bipush 10, 2) := dk_16 10 (dk_at dksX1_shown_1 12 rfl rfl)
theorem dX1_shown_38 : decode cX1_shown 38 = .ok (.idiv, 1) := dk_108 (dk_at dksX1_shown_1 14 rfl rfl)
theorem dX1_shown_39 : decode cX1_shown 39 = .ok (.aload_n 3, 1) := dk_45 (dk_at dksX1_shown_1 15 rfl rfl)
theorem dX1_shown_40 : decode cX1_shown 40 = .ok (.invokevirtual 303, 3) := dk_182 1 47 (dk_at dksX1_shown_1 16 rfl rfl)
theorem dX1_shown_43 : decode cX1_shown 43 = .ok (.if_icmp .ne 20, 3) := dk_160 0 20 (dk_at dksX1_shown_1 19 rfl rfl)
theorem dX1_shown_46 : decode cX1_shown 46 = .ok (.aload_n 0, 1) := dk_42 (dk_at dksX1_shown_1 22 rfl rfl)
theorem dX1_shown_47 : decode cX1_shown 47 = .ok (.getfield 35, 3) := dk_180 0 35 (dk_at dksX1_shown_2 0 rfl rfl)
theorem dX1_shown_50 : decode cX1_shown 50 = .ok (.aload_n 3, 1) := dk_45 (dk_at dksX1_shown_2 3 rfl rfl)
theorem dX1_shown_51 : decode cX1_shown 51 = .ok (.invokevirtual 306, 3) := dk_182 1 50 (dk_at dksX1_shown_2 4 rfl rfl)
theorem dX1_shown_54 : decode cX1_shown 54 = .ok (.aaload, 1) := dk_50 (dk_at dksX1_shown_2 7 rfl rfl)
theorem dX1_shown_55 : decode cX1_shown 55 = .ok (.iload_n 2, 1) := dk_28 (dk_at dksX1_shown_2 8 rfl rfl)
theorem dX1_shown_56 : decode cX1_shown 56 = .ok (.bipush 10, 2) := dk_16 10 (dk_at dksX1_shown_2 9 rfl rfl)
theorem dX1_shown_58 : decode cX1_shown 58 = .ok (.irem, 1) := dk_112 (dk_at dksX1_shown_2 11 rfl rfl)
theorem dX1_shown_59 : decode cX1_shown 59 = .ok (.iaload, 1) := dk_46 (dk_at dksX1_shown_2 12 rfl rfl)
theorem dX1_shown_60 : decode cX1_shown 60 = .ok (.goto 4, 3) := dk_167 0 4 (dk_at dksX1_shown_2 13 rfl rfl)
theorem dX1_shown_63 : decode cX1_shown 63 = .ok (.iconst (-1), 1) := dk_2 (dk_at dksX1_shown_2 16 rfl rfl)
theorem dX1_shown_64 : decode cX1_shown 64 = .ok (.istore 4, 2) := dk_54 4 (dk_at dksX1_shown_2 17 rfl rfl)
theorem dX1_shown_66 : decode cX1_shown 66 = .ok (.iload 4, 2) := dk_21 4 (dk_at dksX1_shown_2 19 rfl rfl)
theorem dX1_shown_68 : decode cX1_shown 68 = .ok (.iconst (-1), 1) := dk_2 (dk_at dksX1_shown_2 21 rfl rfl)
theorem dX1_shown_69 : decode cX1_shown 69 = .ok (.if_icmp .ne 7, 3) := dk_160 0 7 (dk_at dksX1_shown_3 0 rfl rfl)
theorem dX1_shown_72 : decode cX1_shown 72 = .ok (.iconst 0, 1) := dk_3 (dk_at dksX1_shown_3 3 rfl rfl)
theorem dX1_shown_73 : decode cX1_shown 73 = .ok (.goto 8, 3) := dk_167 0 8 (dk_at dksX1_shown_3 4 rfl rfl)
theorem dX1_shown_76 : decode cX1_shown 76 = .ok (.bipush 10, 2) := dk_16 10 (dk_at dksX1_shown_3 7 rfl rfl)
theorem dX1_shown_78 : decode cX1_shown 78 = .ok (.iload 4, 2) := dk_21 4 (dk_at dksX1_shown_3 9 rfl rfl)
theorem dX1_shown_80 : decode cX1_shown 80 = .ok (.iadd, 1) := dk_96 (dk_at dksX1_shown_3 11 rfl rfl)
theorem dX1_shown_81 : decode cX1_shown 81 = .ok (.ireturn, 1) := dk_172 (dk_at dksX1_shown_3 12 rfl rfl)
abbrev cX1_write : ByteArray := prog_1_method_37_code
def yX1_write : MethodName := ⟨RX1, "write", "(III)I"⟩
def dkwX1_write_6 : List UInt8 := [172]
abbrev dktX1_write_6 : List UInt8 := dkwX1_write_6 ++ []
def dkwX1_write_5 : List UInt8 := [162, 0, 7, 4, 167, 0, 4, 3, 184, 0, 136, 25, 4, 180, 1, 1, 28, 4, 29, 182, 0, 140, 21, 5]
abbrev dktX1_write_5 : List UInt8 := dkwX1_write_5 ++ dktX1_write_6
def dkwX1_write_4 : List UInt8 := [28, 182, 0, 129, 199, 0, 21, 25, 4, 180, 1, 1, 180, 0, 133, 185, 0, 105, 1, 0, 16, 20]
abbrev dktX1_write_4 : List UInt8 := dkwX1_write_4 ++ dktX1_write_5
def dkwX1_write_3 : List UInt8 := [42, 180, 0, 35, 25, 6, 182, 1, 50, 50, 28, 16, 10, 112, 29, 79, 167, 0, 52, 25, 4, 180, 1, 1]
abbrev dktX1_write_3 : List UInt8 := dkwX1_write_3 ++ dktX1_write_4
def dkwX1_write_2 : List UInt8 := [160, 0, 7, 4, 167, 0, 4, 3, 184, 0, 136, 25, 4, 28, 182, 1, 43, 58, 6, 25, 6, 198, 0, 22]
abbrev dktX1_write_2 : List UInt8 := dkwX1_write_2 ++ dktX1_write_3
def dkwX1_write_1 : List UInt8 := [182, 1, 53, 54, 5, 21, 5, 5, 159, 0, 21, 42, 25, 4, 28, 16, 10, 108, 182, 1, 53, 5]
abbrev dktX1_write_1 : List UInt8 := dkwX1_write_1 ++ dktX1_write_2
def dkwX1_write_0 : List UInt8 := [42, 27, 182, 1, 23, 58, 4, 28, 184, 0, 122, 29, 3, 17, 3, 231, 184, 0, 125, 42, 25, 4, 28]
abbrev dktX1_write_0 : List UInt8 := dkwX1_write_0 ++ dktX1_write_1
theorem dksX1_write_0 : cX1_write.data.toList.drop 0 = dktX1_write_0 := by decide +kernel
theorem dksX1_write_1 : cX1_write.data.toList.drop 23 = dktX1_write_1 := dk_seg dksX1_write_0 23 rfl rfl
theorem dksX1_write_2 : cX1_write.data.toList.drop 45 = dktX1_write_2 := dk_seg dksX1_write_1 22 rfl rfl
theorem dksX1_write_3 : cX1_write.data.toList.drop 69 = dktX1_write_3 := dk_seg dksX1_write_2 24 rfl rfl
theorem dksX1_write_4 : cX1_write.data.toList.drop 93 = dktX1_write_4 := dk_seg dksX1_write_3 24 rfl rfl
theorem dksX1_write_5 : cX1_write.data.toList.drop 115 = dktX1_write_5 := dk_seg dksX1_write_4 22 rfl rfl
theorem dksX1_write_6 : cX1_write.data.toList.drop 139 = dktX1_write_6 := dk_seg dksX1_write_5 24 rfl rfl
theorem dX1_write_0 : decode cX1_write 0 = .ok (.aload_n 0, 1) := dk_42 (dk_at dksX1_write_0 0 rfl rfl)
theorem dX1_write_1 : decode cX1_write 1 = .ok (.iload_n 1, 1) := dk_27 (dk_at dksX1_write_0 1 rfl rfl)
theorem dX1_write_2 : decode cX1_write 2 = .ok (.invokevirtual 279, 3) := dk_182 1 23 (dk_at dksX1_write_0 2 rfl rfl)
theorem dX1_write_5 : decode cX1_write 5 = .ok (.astore 4, 2) := dk_58 4 (dk_at dksX1_write_0 5 rfl rfl)
theorem dX1_write_7 : decode cX1_write 7 = .ok (.iload_n 2, 1) := dk_28 (dk_at dksX1_write_0 7 rfl rfl)
theorem dX1_write_8 : decode cX1_write 8 = .ok (.invokestatic 122, 3) := dk_184 0 122 (dk_at dksX1_write_0 8 rfl rfl)
theorem dX1_write_11 : decode cX1_write 11 = .ok (.iload_n 3, 1) := dk_29 (dk_at dksX1_write_0 11 rfl rfl)
theorem dX1_write_12 : decode cX1_write 12 = .ok (.iconst 0, 1) := dk_3 (dk_at dksX1_write_0 12 rfl rfl)
theorem dX1_write_13 : decode cX1_write 13 = .ok (.sipush 999, 3) := dk_17 3 231 (dk_at dksX1_write_0 13 rfl rfl)
theorem dX1_write_16 : decode cX1_write 16 = .ok (.invokestatic 125, 3) := dk_184 0 125 (dk_at dksX1_write_0 16 rfl rfl)
theorem dX1_write_19 : decode cX1_write 19 = .ok (.aload_n 0, 1) := dk_42 (dk_at dksX1_write_0 19 rfl rfl)
theorem dX1_write_20 : decode cX1_write 20 = .ok (.aload 4, 2) := dk_25 4 (dk_at dksX1_write_0 20 rfl rfl)
theorem dX1_write_22 : decode cX1_write 22 = .ok (.iload_n 2, 1) := dk_28 (dk_at dksX1_write_0 22 rfl rfl)
theorem dX1_write_23 : decode cX1_write 23 = .ok (.invokevirtual 309, 3) := dk_182 1 53 (dk_at dksX1_write_1 0 rfl rfl)
theorem dX1_write_26 : decode cX1_write 26 = .ok (.istore 5, 2) := dk_54 5 (dk_at dksX1_write_1 3 rfl rfl)
theorem dX1_write_28 : decode cX1_write 28 = .ok (.iload 5, 2) := dk_21 5 (dk_at dksX1_write_1 5 rfl rfl)
theorem dX1_write_30 : decode cX1_write 30 = .ok (.iconst 2, 1) := dk_5 (dk_at dksX1_write_1 7 rfl rfl)
theorem dX1_write_31 : decode cX1_write 31 = .ok (.if_icmp .eq 21, 3) := dk_159 0 21 (dk_at dksX1_write_1 8 rfl rfl)
theorem dX1_write_34 : decode cX1_write 34 = .ok (.aload_n 0, 1) := dk_42 (dk_at dksX1_write_1 11 rfl rfl)
theorem dX1_write_35 : decode cX1_write 35 = .ok (.aload 4, 2) := dk_25 4 (dk_at dksX1_write_1 12 rfl rfl)
theorem dX1_write_37 : decode cX1_write 37 = .ok (.iload_n 2, 1) := dk_28 (dk_at dksX1_write_1 14 rfl rfl)
theorem dX1_write_38 : decode cX1_write 38 = .ok (.bipush 10, 2) := dk_16 10 (dk_at dksX1_write_1 15 rfl rfl)
theorem dX1_write_40 : decode cX1_write 40 = .ok (.idiv, 1) := dk_108 (dk_at dksX1_write_1 17 rfl rfl)
theorem dX1_write_41 : decode cX1_write 41 = .ok (.invokevirtual 309, 3) := dk_182 1 53 (dk_at dksX1_write_1 18 rfl rfl)
theorem dX1_write_44 : decode cX1_write 44 = .ok (.iconst 2, 1) := dk_5 (dk_at dksX1_write_1 21 rfl rfl)
theorem dX1_write_45 : decode cX1_write 45 = .ok (.if_icmp .ne 7, 3) := dk_160 0 7 (dk_at dksX1_write_2 0 rfl rfl)
theorem dX1_write_48 : decode cX1_write 48 = .ok (.iconst 1, 1) := dk_4 (dk_at dksX1_write_2 3 rfl rfl)
theorem dX1_write_49 : decode cX1_write 49 = .ok (.goto 4, 3) := dk_167 0 4 (dk_at dksX1_write_2 4 rfl rfl)
theorem dX1_write_52 : decode cX1_write 52 = .ok (.iconst 0, 1) := dk_3 (dk_at dksX1_write_2 7 rfl rfl)
theorem dX1_write_53 : decode cX1_write 53 = .ok (.invokestatic 136, 3) := dk_184 0 136 (dk_at dksX1_write_2 8 rfl rfl)
theorem dX1_write_56 : decode cX1_write 56 = .ok (.aload 4, 2) := dk_25 4 (dk_at dksX1_write_2 11 rfl rfl)
theorem dX1_write_58 : decode cX1_write 58 = .ok (.iload_n 2, 1) := dk_28 (dk_at dksX1_write_2 13 rfl rfl)
theorem dX1_write_59 : decode cX1_write 59 = .ok (.invokevirtual 299, 3) := dk_182 1 43 (dk_at dksX1_write_2 14 rfl rfl)
theorem dX1_write_62 : decode cX1_write 62 = .ok (.astore 6, 2) := dk_58 6 (dk_at dksX1_write_2 17 rfl rfl)
theorem dX1_write_64 : decode cX1_write 64 = .ok (.aload 6, 2) := dk_25 6 (dk_at dksX1_write_2 19 rfl rfl)
theorem dX1_write_66 : decode cX1_write 66 = .ok (.ifnull 22, 3) := dk_198 0 22 (dk_at dksX1_write_2 21 rfl rfl)
theorem dX1_write_69 : decode cX1_write 69 = .ok (.aload_n 0, 1) := dk_42 (dk_at dksX1_write_3 0 rfl rfl)
theorem dX1_write_70 : decode cX1_write 70 = .ok (.getfield 35, 3) := dk_180 0 35 (dk_at dksX1_write_3 1 rfl rfl)
theorem dX1_write_73 : decode cX1_write 73 = .ok (.aload 6, 2) := dk_25 6 (dk_at dksX1_write_3 4 rfl rfl)
theorem dX1_write_75 : decode cX1_write 75 = .ok (.invokevirtual 306, 3) := dk_182 1 50 (dk_at dksX1_write_3 6 rfl rfl)
theorem dX1_write_78 : decode cX1_write 78 = .ok (.aaload, 1) := dk_50 (dk_at dksX1_write_3 9 rfl rfl)
theorem dX1_write_79 : decode cX1_write 79 = .ok (.iload_n 2, 1) := dk_28 (dk_at dksX1_write_3 10 rfl rfl)
theorem dX1_write_80 : decode cX1_write 80 = .ok (.bipush 10, 2) := dk_16 10 (dk_at dksX1_write_3 11 rfl rfl)
theorem dX1_write_82 : decode cX1_write 82 = .ok (.irem, 1) := dk_112 (dk_at dksX1_write_3 13 rfl rfl)
theorem dX1_write_83 : decode cX1_write 83 = .ok (.iload_n 3, 1) := dk_29 (dk_at dksX1_write_3 14 rfl rfl)
theorem dX1_write_84 : decode cX1_write 84 = .ok (.iastore, 1) := dk_79 (dk_at dksX1_write_3 15 rfl rfl)
theorem dX1_write_85 : decode cX1_write 85 = .ok (.goto 52, 3) := dk_167 0 52 (dk_at dksX1_write_3 16 rfl rfl)
theorem dX1_write_88 : decode cX1_write 88 = .ok (.aload 4, 2) := dk_25 4 (dk_at dksX1_write_3 19 rfl rfl)
theorem dX1_write_90 : decode cX1_write 90 = .ok (.getfield 257, 3) := dk_180 1 1 (dk_at dksX1_write_3 21 rfl rfl)
theorem dX1_write_93 : decode cX1_write 93 = .ok (.iload_n 2, 1) := dk_28 (dk_at dksX1_write_4 0 rfl rfl)
theorem dX1_write_94 : decode cX1_write 94 = .ok (.invokevirtual 129, 3) := dk_182 0 129 (dk_at dksX1_write_4 1 rfl rfl)
theorem dX1_write_97 : decode cX1_write 97 = .ok (.ifnonnull 21, 3) := dk_199 0 21 (dk_at dksX1_write_4 4 rfl rfl)
theorem dX1_write_100 : decode cX1_write 100 = .ok (.aload 4, 2) := dk_25 4 (dk_at dksX1_write_4 7 rfl rfl)
theorem dX1_write_102 : decode cX1_write 102 = .ok (.getfield 257, 3) := dk_180 1 1 (dk_at dksX1_write_4 9 rfl rfl)
theorem dX1_write_105 : decode cX1_write 105 = .ok (.getfield 133, 3) := dk_180 0 133 (dk_at dksX1_write_4 12 rfl rfl)
theorem dX1_write_108 : decode cX1_write 108 = .ok (.invokeinterface 105 1, 5) := by decide +kernel
theorem dX1_write_113 : decode cX1_write 113 = .ok (.bipush 20, 2) := dk_16 20 (dk_at dksX1_write_4 20 rfl rfl)
theorem dX1_write_115 : decode cX1_write 115 = .ok (.if_icmp .ge 7, 3) := dk_162 0 7 (dk_at dksX1_write_5 0 rfl rfl)
theorem dX1_write_118 : decode cX1_write 118 = .ok (.iconst 1, 1) := dk_4 (dk_at dksX1_write_5 3 rfl rfl)
theorem dX1_write_119 : decode cX1_write 119 = .ok (.goto 4, 3) := dk_167 0 4 (dk_at dksX1_write_5 4 rfl rfl)
theorem dX1_write_122 : decode cX1_write 122 = .ok (.iconst 0, 1) := dk_3 (dk_at dksX1_write_5 7 rfl rfl)
theorem dX1_write_123 : decode cX1_write 123 = .ok (.invokestatic 136, 3) := dk_184 0 136 (dk_at dksX1_write_5 8 rfl rfl)
theorem dX1_write_126 : decode cX1_write 126 = .ok (.aload 4, 2) := dk_25 4 (dk_at dksX1_write_5 11 rfl rfl)
theorem dX1_write_128 : decode cX1_write 128 = .ok (.getfield 257, 3) := dk_180 1 1 (dk_at dksX1_write_5 13 rfl rfl)
theorem dX1_write_131 : decode cX1_write 131 = .ok (.iload_n 2, 1) := dk_28 (dk_at dksX1_write_5 16 rfl rfl)
theorem dX1_write_132 : decode cX1_write 132 = .ok (.iconst 1, 1) := dk_4 (dk_at dksX1_write_5 17 rfl rfl)
theorem dX1_write_133 : decode cX1_write 133 = .ok (.iload_n 3, 1) := dk_29 (dk_at dksX1_write_5 18 rfl rfl)
theorem dX1_write_134 : decode cX1_write 134 = .ok (.invokevirtual 140, 3) := dk_182 0 140 (dk_at dksX1_write_5 19 rfl rfl)
theorem dX1_write_137 : decode cX1_write 137 = .ok (.iload 5, 2) := dk_21 5 (dk_at dksX1_write_5 22 rfl rfl)
theorem dX1_write_139 : decode cX1_write 139 = .ok (.ireturn, 1) := dk_172 (dk_at dksX1_write_6 0 rfl rfl)
abbrev cX1_makeFolder : ByteArray := prog_1_method_38_code
def yX1_makeFolder : MethodName := ⟨RX1, "makeFolder", "(II)V"⟩
def dkwX1_makeFolder_4 : List UInt8 := [28, 184, 1, 57, 153, 0, 7, 6, 167, 0, 4, 5, 3, 182, 0, 140, 177]
abbrev dktX1_makeFolder_4 : List UInt8 := dkwX1_makeFolder_4 ++ []
def dkwX1_makeFolder_3 : List UInt8 := [185, 0, 105, 1, 0, 16, 20, 162, 0, 7, 4, 167, 0, 4, 3, 184, 0, 136, 45, 180, 1, 1, 28, 45]
abbrev dktX1_makeFolder_3 : List UInt8 := dkwX1_makeFolder_3 ++ dktX1_makeFolder_4
def dkwX1_makeFolder_2 : List UInt8 := [21, 4, 153, 0, 35, 45, 180, 1, 1, 28, 182, 0, 129, 199, 0, 20, 45, 180, 1, 1, 180, 0, 133]
abbrev dktX1_makeFolder_2 : List UInt8 := dkwX1_makeFolder_2 ++ dktX1_makeFolder_3
def dkwX1_makeFolder_1 : List UInt8 := [154, 0, 20, 42, 45, 28, 16, 10, 108, 182, 1, 53, 5, 160, 0, 7, 4, 167, 0, 4, 3, 54, 4]
abbrev dktX1_makeFolder_1 : List UInt8 := dkwX1_makeFolder_1 ++ dktX1_makeFolder_2
def dkwX1_makeFolder_0 : List UInt8 := [42, 27, 182, 1, 23, 78, 28, 184, 0, 122, 45, 28, 182, 1, 43, 199, 0, 29, 42, 45, 28, 182, 1, 53]
abbrev dktX1_makeFolder_0 : List UInt8 := dkwX1_makeFolder_0 ++ dktX1_makeFolder_1
theorem dksX1_makeFolder_0 : cX1_makeFolder.data.toList.drop 0 = dktX1_makeFolder_0 := by decide +kernel
theorem dksX1_makeFolder_1 : cX1_makeFolder.data.toList.drop 24 = dktX1_makeFolder_1 := dk_seg dksX1_makeFolder_0 24 rfl rfl
theorem dksX1_makeFolder_2 : cX1_makeFolder.data.toList.drop 47 = dktX1_makeFolder_2 := dk_seg dksX1_makeFolder_1 23 rfl rfl
theorem dksX1_makeFolder_3 : cX1_makeFolder.data.toList.drop 70 = dktX1_makeFolder_3 := dk_seg dksX1_makeFolder_2 23 rfl rfl
theorem dksX1_makeFolder_4 : cX1_makeFolder.data.toList.drop 94 = dktX1_makeFolder_4 := dk_seg dksX1_makeFolder_3 24 rfl rfl
theorem dX1_makeFolder_0 : decode cX1_makeFolder 0 = .ok (.aload_n 0, 1) := dk_42 (dk_at dksX1_makeFolder_0 0 rfl rfl)
theorem dX1_makeFolder_1 : decode cX1_makeFolder 1 = .ok (.iload_n 1, 1) := dk_27 (dk_at dksX1_makeFolder_0 1 rfl rfl)
theorem dX1_makeFolder_2 : decode cX1_makeFolder 2 = .ok (.invokevirtual 279, 3) := dk_182 1 23 (dk_at dksX1_makeFolder_0 2 rfl rfl)
theorem dX1_makeFolder_5 : decode cX1_makeFolder 5 = .ok (.astore_n 3, 1) := dk_78 (dk_at dksX1_makeFolder_0 5 rfl rfl)
theorem dX1_makeFolder_6 : decode cX1_makeFolder 6 = .ok (.iload_n 2, 1) := dk_28 (dk_at dksX1_makeFolder_0 6 rfl rfl)
theorem dX1_makeFolder_7 : decode cX1_makeFolder 7 = .ok (.invokestatic 122, 3) := dk_184 0 122 (dk_at dksX1_makeFolder_0 7 rfl rfl)
theorem dX1_makeFolder_10 : decode cX1_makeFolder 10 = .ok (.aload_n 3, 1) := dk_45 (dk_at dksX1_makeFolder_0 10 rfl rfl)
theorem dX1_makeFolder_11 : decode cX1_makeFolder 11 = .ok (.iload_n 2, 1) := dk_28 (dk_at dksX1_makeFolder_0 11 rfl rfl)
theorem dX1_makeFolder_12 : decode cX1_makeFolder 12 = .ok (.invokevirtual 299, 3) := dk_182 1 43 (dk_at dksX1_makeFolder_0 12 rfl rfl)
theorem dX1_makeFolder_15 : decode cX1_makeFolder 15 = .ok (.ifnonnull 29, 3) := dk_199 0 29 (dk_at dksX1_makeFolder_0 15 rfl rfl)
theorem dX1_makeFolder_18 : decode cX1_makeFolder 18 = .ok (.aload_n 0, 1) := dk_42 (dk_at dksX1_makeFolder_0 18 rfl rfl)
theorem dX1_makeFolder_19 : decode cX1_makeFolder 19 = .ok (.aload_n 3, 1) := dk_45 (dk_at dksX1_makeFolder_0 19 rfl rfl)
theorem dX1_makeFolder_20 : decode cX1_makeFolder 20 = .ok (.iload_n 2, 1) := dk_28 (dk_at dksX1_makeFolder_0 20 rfl rfl)
theorem dX1_makeFolder_21 : decode cX1_makeFolder 21 = .ok (.invokevirtual 309, 3) := dk_182 1 53 (dk_at dksX1_makeFolder_0 21 rfl rfl)
theorem dX1_makeFolder_24 : decode cX1_makeFolder 24 = .ok (.ifCond .ne 20, 3) := dk_154 0 20 (dk_at dksX1_makeFolder_1 0 rfl rfl)
theorem dX1_makeFolder_27 : decode cX1_makeFolder 27 = .ok (.aload_n 0, 1) := dk_42 (dk_at dksX1_makeFolder_1 3 rfl rfl)
theorem dX1_makeFolder_28 : decode cX1_makeFolder 28 = .ok (.aload_n 3, 1) := dk_45 (dk_at dksX1_makeFolder_1 4 rfl rfl)
theorem dX1_makeFolder_29 : decode cX1_makeFolder 29 = .ok (.iload_n 2, 1) := dk_28 (dk_at dksX1_makeFolder_1 5 rfl rfl)
theorem dX1_makeFolder_30 : decode cX1_makeFolder 30 = .ok (.bipush 10, 2) := dk_16 10 (dk_at dksX1_makeFolder_1 6 rfl rfl)
theorem dX1_makeFolder_32 : decode cX1_makeFolder 32 = .ok (.idiv, 1) := dk_108 (dk_at dksX1_makeFolder_1 8 rfl rfl)
theorem dX1_makeFolder_33 : decode cX1_makeFolder 33 = .ok (.invokevirtual 309, 3) := dk_182 1 53 (dk_at dksX1_makeFolder_1 9 rfl rfl)
theorem dX1_makeFolder_36 : decode cX1_makeFolder 36 = .ok (.iconst 2, 1) := dk_5 (dk_at dksX1_makeFolder_1 12 rfl rfl)
theorem dX1_makeFolder_37 : decode cX1_makeFolder 37 = .ok (.if_icmp .ne 7, 3) := dk_160 0 7 (dk_at dksX1_makeFolder_1 13 rfl rfl)
theorem dX1_makeFolder_40 : decode cX1_makeFolder 40 = .ok (.iconst 1, 1) := dk_4 (dk_at dksX1_makeFolder_1 16 rfl rfl)
theorem dX1_makeFolder_41 : decode cX1_makeFolder 41 = .ok (.goto 4, 3) := dk_167 0 4 (dk_at dksX1_makeFolder_1 17 rfl rfl)
theorem dX1_makeFolder_44 : decode cX1_makeFolder 44 = .ok (.iconst 0, 1) := dk_3 (dk_at dksX1_makeFolder_1 20 rfl rfl)
theorem dX1_makeFolder_45 : decode cX1_makeFolder 45 = .ok (.istore 4, 2) := dk_54 4 (dk_at dksX1_makeFolder_1 21 rfl rfl)
theorem dX1_makeFolder_47 : decode cX1_makeFolder 47 = .ok (.iload 4, 2) := dk_21 4 (dk_at dksX1_makeFolder_2 0 rfl rfl)
theorem dX1_makeFolder_49 : decode cX1_makeFolder 49 = .ok (.ifCond .eq 35, 3) := dk_153 0 35 (dk_at dksX1_makeFolder_2 2 rfl rfl)
theorem dX1_makeFolder_52 : decode cX1_makeFolder 52 = .ok (.aload_n 3, 1) := dk_45 (dk_at dksX1_makeFolder_2 5 rfl rfl)
theorem dX1_makeFolder_53 : decode cX1_makeFolder 53 = .ok (.getfield 257, 3) := dk_180 1 1 (dk_at dksX1_makeFolder_2 6 rfl rfl)
theorem dX1_makeFolder_56 : decode cX1_makeFolder 56 = .ok (.iload_n 2, 1) := dk_28 (dk_at dksX1_makeFolder_2 9 rfl rfl)
theorem dX1_makeFolder_57 : decode cX1_makeFolder 57 = .ok (.invokevirtual 129, 3) := dk_182 0 129 (dk_at dksX1_makeFolder_2 10 rfl rfl)
theorem dX1_makeFolder_60 : decode cX1_makeFolder 60 = .ok (.ifnonnull 20, 3) := dk_199 0 20 (dk_at dksX1_makeFolder_2 13 rfl rfl)
theorem dX1_makeFolder_63 : decode cX1_makeFolder 63 = .ok (.aload_n 3, 1) := dk_45 (dk_at dksX1_makeFolder_2 16 rfl rfl)
theorem dX1_makeFolder_64 : decode cX1_makeFolder 64 = .ok (.getfield 257, 3) := dk_180 1 1 (dk_at dksX1_makeFolder_2 17 rfl rfl)
theorem dX1_makeFolder_67 : decode cX1_makeFolder 67 = .ok (.getfield 133, 3) := dk_180 0 133 (dk_at dksX1_makeFolder_2 20 rfl rfl)
theorem dX1_makeFolder_70 : decode cX1_makeFolder 70 = .ok (.invokeinterface 105 1, 5) := by decide +kernel
theorem dX1_makeFolder_75 : decode cX1_makeFolder 75 = .ok (.bipush 20, 2) := dk_16 20 (dk_at dksX1_makeFolder_3 5 rfl rfl)
theorem dX1_makeFolder_77 : decode cX1_makeFolder 77 = .ok (.if_icmp .ge 7, 3) := dk_162 0 7 (dk_at dksX1_makeFolder_3 7 rfl rfl)
theorem dX1_makeFolder_80 : decode cX1_makeFolder 80 = .ok (.iconst 1, 1) := dk_4 (dk_at dksX1_makeFolder_3 10 rfl rfl)
theorem dX1_makeFolder_81 : decode cX1_makeFolder 81 = .ok (.goto 4, 3) := dk_167 0 4 (dk_at dksX1_makeFolder_3 11 rfl rfl)
theorem dX1_makeFolder_84 : decode cX1_makeFolder 84 = .ok (.iconst 0, 1) := dk_3 (dk_at dksX1_makeFolder_3 14 rfl rfl)
theorem dX1_makeFolder_85 : decode cX1_makeFolder 85 = .ok (.invokestatic 136, 3) := dk_184 0 136 (dk_at dksX1_makeFolder_3 15 rfl rfl)
theorem dX1_makeFolder_88 : decode cX1_makeFolder 88 = .ok (.aload_n 3, 1) := dk_45 (dk_at dksX1_makeFolder_3 18 rfl rfl)
theorem dX1_makeFolder_89 : decode cX1_makeFolder 89 = .ok (.getfield 257, 3) := dk_180 1 1 (dk_at dksX1_makeFolder_3 19 rfl rfl)
theorem dX1_makeFolder_92 : decode cX1_makeFolder 92 = .ok (.iload_n 2, 1) := dk_28 (dk_at dksX1_makeFolder_3 22 rfl rfl)
theorem dX1_makeFolder_93 : decode cX1_makeFolder 93 = .ok (.aload_n 3, 1) := dk_45 (dk_at dksX1_makeFolder_3 23 rfl rfl)
theorem dX1_makeFolder_94 : decode cX1_makeFolder 94 = .ok (.iload_n 2, 1) := dk_28 (dk_at dksX1_makeFolder_4 0 rfl rfl)
theorem dX1_makeFolder_95 : decode cX1_makeFolder 95 = .ok (.invokestatic 313, 3) := dk_184 1 57 (dk_at dksX1_makeFolder_4 1 rfl rfl)
theorem dX1_makeFolder_98 : decode cX1_makeFolder 98 = .ok (.ifCond .eq 7, 3) := dk_153 0 7 (dk_at dksX1_makeFolder_4 4 rfl rfl)
theorem dX1_makeFolder_101 : decode cX1_makeFolder 101 = .ok (.iconst 3, 1) := dk_6 (dk_at dksX1_makeFolder_4 7 rfl rfl)
theorem dX1_makeFolder_102 : decode cX1_makeFolder 102 = .ok (.goto 4, 3) := dk_167 0 4 (dk_at dksX1_makeFolder_4 8 rfl rfl)
theorem dX1_makeFolder_105 : decode cX1_makeFolder 105 = .ok (.iconst 2, 1) := dk_5 (dk_at dksX1_makeFolder_4 11 rfl rfl)
theorem dX1_makeFolder_106 : decode cX1_makeFolder 106 = .ok (.iconst 0, 1) := dk_3 (dk_at dksX1_makeFolder_4 12 rfl rfl)
theorem dX1_makeFolder_107 : decode cX1_makeFolder 107 = .ok (.invokevirtual 140, 3) := dk_182 0 140 (dk_at dksX1_makeFolder_4 13 rfl rfl)
theorem dX1_makeFolder_110 : decode cX1_makeFolder 110 = .ok (.return_, 1) := dk_177 (dk_at dksX1_makeFolder_4 16 rfl rfl)
abbrev cX1_hasWhiteout : ByteArray := prog_1_method_39_code
def yX1_hasWhiteout : MethodName := ⟨RX1, "hasWhiteout", "(LCrateDeck$Container;I)Z"⟩
def dkwX1_hasWhiteout_1 : List UInt8 := [167, 0, 4, 3, 172]
abbrev dktX1_hasWhiteout_1 : List UInt8 := dkwX1_hasWhiteout_1 ++ []
def dkwX1_hasWhiteout_0 : List UInt8 := [42, 180, 1, 1, 27, 182, 0, 129, 77, 44, 198, 0, 15, 44, 182, 0, 217, 7, 160, 0, 7, 4]
abbrev dktX1_hasWhiteout_0 : List UInt8 := dkwX1_hasWhiteout_0 ++ dktX1_hasWhiteout_1
theorem dksX1_hasWhiteout_0 : cX1_hasWhiteout.data.toList.drop 0 = dktX1_hasWhiteout_0 := by decide +kernel
theorem dksX1_hasWhiteout_1 : cX1_hasWhiteout.data.toList.drop 22 = dktX1_hasWhiteout_1 := dk_seg dksX1_hasWhiteout_0 22 rfl rfl
theorem dX1_hasWhiteout_0 : decode cX1_hasWhiteout 0 = .ok (.aload_n 0, 1) := dk_42 (dk_at dksX1_hasWhiteout_0 0 rfl rfl)
theorem dX1_hasWhiteout_1 : decode cX1_hasWhiteout 1 = .ok (.getfield 257, 3) := dk_180 1 1 (dk_at dksX1_hasWhiteout_0 1 rfl rfl)
theorem dX1_hasWhiteout_4 : decode cX1_hasWhiteout 4 = .ok (.iload_n 1, 1) := dk_27 (dk_at dksX1_hasWhiteout_0 4 rfl rfl)
theorem dX1_hasWhiteout_5 : decode cX1_hasWhiteout 5 = .ok (.invokevirtual 129, 3) := dk_182 0 129 (dk_at dksX1_hasWhiteout_0 5 rfl rfl)
theorem dX1_hasWhiteout_8 : decode cX1_hasWhiteout 8 = .ok (.astore_n 2, 1) := dk_77 (dk_at dksX1_hasWhiteout_0 8 rfl rfl)
theorem dX1_hasWhiteout_9 : decode cX1_hasWhiteout 9 = .ok (.aload_n 2, 1) := dk_44 (dk_at dksX1_hasWhiteout_0 9 rfl rfl)
theorem dX1_hasWhiteout_10 : decode cX1_hasWhiteout 10 = .ok (.ifnull 15, 3) := dk_198 0 15 (dk_at dksX1_hasWhiteout_0 10 rfl rfl)
theorem dX1_hasWhiteout_13 : decode cX1_hasWhiteout 13 = .ok (.aload_n 2, 1) := dk_44 (dk_at dksX1_hasWhiteout_0 13 rfl rfl)
theorem dX1_hasWhiteout_14 : decode cX1_hasWhiteout 14 = .ok (.invokevirtual 217, 3) := dk_182 0 217 (dk_at dksX1_hasWhiteout_0 14 rfl rfl)
theorem dX1_hasWhiteout_17 : decode cX1_hasWhiteout 17 = .ok (.iconst 4, 1) := dk_7 (dk_at dksX1_hasWhiteout_0 17 rfl rfl)
theorem dX1_hasWhiteout_18 : decode cX1_hasWhiteout 18 = .ok (.if_icmp .ne 7, 3) := dk_160 0 7 (dk_at dksX1_hasWhiteout_0 18 rfl rfl)
theorem dX1_hasWhiteout_21 : decode cX1_hasWhiteout 21 = .ok (.iconst 1, 1) := dk_4 (dk_at dksX1_hasWhiteout_0 21 rfl rfl)
theorem dX1_hasWhiteout_22 : decode cX1_hasWhiteout 22 = .ok (.goto 4, 3) := dk_167 0 4 (dk_at dksX1_hasWhiteout_1 0 rfl rfl)
theorem dX1_hasWhiteout_25 : decode cX1_hasWhiteout 25 = .ok (.iconst 0, 1) := dk_3 (dk_at dksX1_hasWhiteout_1 3 rfl rfl)
theorem dX1_hasWhiteout_26 : decode cX1_hasWhiteout 26 = .ok (.ireturn, 1) := dk_172 (dk_at dksX1_hasWhiteout_1 4 rfl rfl)
abbrev cX1_remove : ByteArray := prog_1_method_43_code
def yX1_remove : MethodName := ⟨RX1, "remove", "(II)I"⟩
def dkwX1_remove_3 : List UInt8 := [42, 180, 0, 70, 45, 180, 1, 1, 182, 0, 147, 45, 28, 184, 1, 67, 42, 45, 182, 1, 71, 21, 4, 172]
abbrev dktX1_remove_3 : List UInt8 := dkwX1_remove_3 ++ []
def dkwX1_remove_2 : List UInt8 := [25, 5, 198, 0, 22, 42, 180, 0, 35, 25, 5, 182, 1, 50, 50, 28, 16, 10, 112, 2, 79, 167, 0, 24]
abbrev dktX1_remove_2 : List UInt8 := dkwX1_remove_2 ++ dktX1_remove_3
def dkwX1_remove_1 : List UInt8 := [58, 5, 21, 4, 153, 0, 15, 45, 28, 182, 1, 64, 154, 0, 7, 4, 167, 0, 4, 3, 184, 0, 136]
abbrev dktX1_remove_1 : List UInt8 := dkwX1_remove_1 ++ dktX1_remove_2
def dkwX1_remove_0 : List UInt8 := [42, 27, 182, 1, 23, 78, 28, 184, 0, 122, 42, 45, 28, 182, 1, 53, 54, 4, 45, 28, 182, 1, 43]
abbrev dktX1_remove_0 : List UInt8 := dkwX1_remove_0 ++ dktX1_remove_1
theorem dksX1_remove_0 : cX1_remove.data.toList.drop 0 = dktX1_remove_0 := by decide +kernel
theorem dksX1_remove_1 : cX1_remove.data.toList.drop 23 = dktX1_remove_1 := dk_seg dksX1_remove_0 23 rfl rfl
theorem dksX1_remove_2 : cX1_remove.data.toList.drop 46 = dktX1_remove_2 := dk_seg dksX1_remove_1 23 rfl rfl
theorem dksX1_remove_3 : cX1_remove.data.toList.drop 70 = dktX1_remove_3 := dk_seg dksX1_remove_2 24 rfl rfl
theorem dX1_remove_0 : decode cX1_remove 0 = .ok (.aload_n 0, 1) := dk_42 (dk_at dksX1_remove_0 0 rfl rfl)
theorem dX1_remove_1 : decode cX1_remove 1 = .ok (.iload_n 1, 1) := dk_27 (dk_at dksX1_remove_0 1 rfl rfl)
theorem dX1_remove_2 : decode cX1_remove 2 = .ok (.invokevirtual 279, 3) := dk_182 1 23 (dk_at dksX1_remove_0 2 rfl rfl)
theorem dX1_remove_5 : decode cX1_remove 5 = .ok (.astore_n 3, 1) := dk_78 (dk_at dksX1_remove_0 5 rfl rfl)
theorem dX1_remove_6 : decode cX1_remove 6 = .ok (.iload_n 2, 1) := dk_28 (dk_at dksX1_remove_0 6 rfl rfl)
theorem dX1_remove_7 : decode cX1_remove 7 = .ok (.invokestatic 122, 3) := dk_184 0 122 (dk_at dksX1_remove_0 7 rfl rfl)
theorem dX1_remove_10 : decode cX1_remove 10 = .ok (.aload_n 0, 1) := dk_42 (dk_at dksX1_remove_0 10 rfl rfl)
theorem dX1_remove_11 : decode cX1_remove 11 = .ok (.aload_n 3, 1) := dk_45 (dk_at dksX1_remove_0 11 rfl rfl)
theorem dX1_remove_12 : decode cX1_remove 12 = .ok (.iload_n 2, 1) := dk_28 (dk_at dksX1_remove_0 12 rfl rfl)
theorem dX1_remove_13 : decode cX1_remove 13 = .ok (.invokevirtual 309, 3) := dk_182 1 53 (dk_at dksX1_remove_0 13 rfl rfl)
theorem dX1_remove_16 : decode cX1_remove 16 = .ok (.istore 4, 2) := dk_54 4 (dk_at dksX1_remove_0 16 rfl rfl)
theorem dX1_remove_18 : decode cX1_remove 18 = .ok (.aload_n 3, 1) := dk_45 (dk_at dksX1_remove_0 18 rfl rfl)
theorem dX1_remove_19 : decode cX1_remove 19 = .ok (.iload_n 2, 1) := dk_28 (dk_at dksX1_remove_0 19 rfl rfl)
theorem dX1_remove_20 : decode cX1_remove 20 = .ok (.invokevirtual 299, 3) := dk_182 1 43 (dk_at dksX1_remove_0 20 rfl rfl)
theorem dX1_remove_23 : decode cX1_remove 23 = .ok (.astore 5, 2) := dk_58 5 (dk_at dksX1_remove_1 0 rfl rfl)
theorem dX1_remove_25 : decode cX1_remove 25 = .ok (.iload 4, 2) := dk_21 4 (dk_at dksX1_remove_1 2 rfl rfl)
theorem dX1_remove_27 : decode cX1_remove 27 = .ok (.ifCond .eq 15, 3) := dk_153 0 15 (dk_at dksX1_remove_1 4 rfl rfl)
theorem dX1_remove_30 : decode cX1_remove 30 = .ok (.aload_n 3, 1) := dk_45 (dk_at dksX1_remove_1 7 rfl rfl)
theorem dX1_remove_31 : decode cX1_remove 31 = .ok (.iload_n 2, 1) := dk_28 (dk_at dksX1_remove_1 8 rfl rfl)
theorem dX1_remove_32 : decode cX1_remove 32 = .ok (.invokevirtual 320, 3) := dk_182 1 64 (dk_at dksX1_remove_1 9 rfl rfl)
theorem dX1_remove_35 : decode cX1_remove 35 = .ok (.ifCond .ne 7, 3) := dk_154 0 7 (dk_at dksX1_remove_1 12 rfl rfl)
theorem dX1_remove_38 : decode cX1_remove 38 = .ok (.iconst 1, 1) := dk_4 (dk_at dksX1_remove_1 15 rfl rfl)
theorem dX1_remove_39 : decode cX1_remove 39 = .ok (.goto 4, 3) := dk_167 0 4 (dk_at dksX1_remove_1 16 rfl rfl)
theorem dX1_remove_42 : decode cX1_remove 42 = .ok (.iconst 0, 1) := dk_3 (dk_at dksX1_remove_1 19 rfl rfl)
theorem dX1_remove_43 : decode cX1_remove 43 = .ok (.invokestatic 136, 3) := dk_184 0 136 (dk_at dksX1_remove_1 20 rfl rfl)
theorem dX1_remove_46 : decode cX1_remove 46 = .ok (.aload 5, 2) := dk_25 5 (dk_at dksX1_remove_2 0 rfl rfl)
theorem dX1_remove_48 : decode cX1_remove 48 = .ok (.ifnull 22, 3) := dk_198 0 22 (dk_at dksX1_remove_2 2 rfl rfl)
theorem dX1_remove_51 : decode cX1_remove 51 = .ok (.aload_n 0, 1) := dk_42 (dk_at dksX1_remove_2 5 rfl rfl)
theorem dX1_remove_52 : decode cX1_remove 52 = .ok (.getfield 35, 3) := dk_180 0 35 (dk_at dksX1_remove_2 6 rfl rfl)
theorem dX1_remove_55 : decode cX1_remove 55 = .ok (.aload 5, 2) := dk_25 5 (dk_at dksX1_remove_2 9 rfl rfl)
theorem dX1_remove_57 : decode cX1_remove 57 = .ok (.invokevirtual 306, 3) := dk_182 1 50 (dk_at dksX1_remove_2 11 rfl rfl)
theorem dX1_remove_60 : decode cX1_remove 60 = .ok (.aaload, 1) := dk_50 (dk_at dksX1_remove_2 14 rfl rfl)
theorem dX1_remove_61 : decode cX1_remove 61 = .ok (.iload_n 2, 1) := dk_28 (dk_at dksX1_remove_2 15 rfl rfl)
theorem dX1_remove_62 : decode cX1_remove 62 = .ok (.bipush 10, 2) := dk_16 10 (dk_at dksX1_remove_2 16 rfl rfl)
theorem dX1_remove_64 : decode cX1_remove 64 = .ok (.irem, 1) := dk_112 (dk_at dksX1_remove_2 18 rfl rfl)
theorem dX1_remove_65 : decode cX1_remove 65 = .ok (.iconst (-1), 1) := dk_2 (dk_at dksX1_remove_2 19 rfl rfl)
theorem dX1_remove_66 : decode cX1_remove 66 = .ok (.iastore, 1) := dk_79 (dk_at dksX1_remove_2 20 rfl rfl)
theorem dX1_remove_67 : decode cX1_remove 67 = .ok (.goto 24, 3) := dk_167 0 24 (dk_at dksX1_remove_2 21 rfl rfl)
theorem dX1_remove_70 : decode cX1_remove 70 = .ok (.aload_n 0, 1) := dk_42 (dk_at dksX1_remove_3 0 rfl rfl)
theorem dX1_remove_71 : decode cX1_remove 71 = .ok (.getfield 70, 3) := dk_180 0 70 (dk_at dksX1_remove_3 1 rfl rfl)
theorem dX1_remove_74 : decode cX1_remove 74 = .ok (.aload_n 3, 1) := dk_45 (dk_at dksX1_remove_3 4 rfl rfl)
theorem dX1_remove_75 : decode cX1_remove 75 = .ok (.getfield 257, 3) := dk_180 1 1 (dk_at dksX1_remove_3 5 rfl rfl)
theorem dX1_remove_78 : decode cX1_remove 78 = .ok (.invokevirtual 147, 3) := dk_182 0 147 (dk_at dksX1_remove_3 8 rfl rfl)
theorem dX1_remove_81 : decode cX1_remove 81 = .ok (.aload_n 3, 1) := dk_45 (dk_at dksX1_remove_3 11 rfl rfl)
theorem dX1_remove_82 : decode cX1_remove 82 = .ok (.iload_n 2, 1) := dk_28 (dk_at dksX1_remove_3 12 rfl rfl)
theorem dX1_remove_83 : decode cX1_remove 83 = .ok (.invokestatic 323, 3) := dk_184 1 67 (dk_at dksX1_remove_3 13 rfl rfl)
theorem dX1_remove_86 : decode cX1_remove 86 = .ok (.aload_n 0, 1) := dk_42 (dk_at dksX1_remove_3 16 rfl rfl)
theorem dX1_remove_87 : decode cX1_remove 87 = .ok (.aload_n 3, 1) := dk_45 (dk_at dksX1_remove_3 17 rfl rfl)
theorem dX1_remove_88 : decode cX1_remove 88 = .ok (.invokevirtual 327, 3) := dk_182 1 71 (dk_at dksX1_remove_3 18 rfl rfl)
theorem dX1_remove_91 : decode cX1_remove 91 = .ok (.iload 4, 2) := dk_21 4 (dk_at dksX1_remove_3 21 rfl rfl)
theorem dX1_remove_93 : decode cX1_remove 93 = .ok (.ireturn, 1) := dk_172 (dk_at dksX1_remove_3 23 rfl rfl)
abbrev cX1_hide : ByteArray := prog_1_method_40_code
def yX1_hide : MethodName := ⟨RX1, "hide", "(LCrateDeck$Container;I)V"⟩
def dkwX1_hide_1 : List UInt8 := [7, 3, 182, 0, 140, 177]
abbrev dktX1_hide_1 : List UInt8 := dkwX1_hide_1 ++ []
def dkwX1_hide_0 : List UInt8 := [42, 180, 1, 1, 27, 182, 1, 61, 42, 180, 0, 254, 27, 182, 0, 207, 153, 0, 13, 42, 180, 1, 1, 27]
abbrev dktX1_hide_0 : List UInt8 := dkwX1_hide_0 ++ dktX1_hide_1
theorem dksX1_hide_0 : cX1_hide.data.toList.drop 0 = dktX1_hide_0 := by decide +kernel
theorem dksX1_hide_1 : cX1_hide.data.toList.drop 24 = dktX1_hide_1 := dk_seg dksX1_hide_0 24 rfl rfl
theorem dX1_hide_0 : decode cX1_hide 0 = .ok (.aload_n 0, 1) := dk_42 (dk_at dksX1_hide_0 0 rfl rfl)
theorem dX1_hide_1 : decode cX1_hide 1 = .ok (.getfield 257, 3) := dk_180 1 1 (dk_at dksX1_hide_0 1 rfl rfl)
theorem dX1_hide_4 : decode cX1_hide 4 = .ok (.iload_n 1, 1) := dk_27 (dk_at dksX1_hide_0 4 rfl rfl)
theorem dX1_hide_5 : decode cX1_hide 5 = .ok (.invokevirtual 317, 3) := dk_182 1 61 (dk_at dksX1_hide_0 5 rfl rfl)
theorem dX1_hide_8 : decode cX1_hide 8 = .ok (.aload_n 0, 1) := dk_42 (dk_at dksX1_hide_0 8 rfl rfl)
theorem dX1_hide_9 : decode cX1_hide 9 = .ok (.getfield 254, 3) := dk_180 0 254 (dk_at dksX1_hide_0 9 rfl rfl)
theorem dX1_hide_12 : decode cX1_hide 12 = .ok (.iload_n 1, 1) := dk_27 (dk_at dksX1_hide_0 12 rfl rfl)
theorem dX1_hide_13 : decode cX1_hide 13 = .ok (.invokevirtual 207, 3) := dk_182 0 207 (dk_at dksX1_hide_0 13 rfl rfl)
theorem dX1_hide_16 : decode cX1_hide 16 = .ok (.ifCond .eq 13, 3) := dk_153 0 13 (dk_at dksX1_hide_0 16 rfl rfl)
theorem dX1_hide_19 : decode cX1_hide 19 = .ok (.aload_n 0, 1) := dk_42 (dk_at dksX1_hide_0 19 rfl rfl)
theorem dX1_hide_20 : decode cX1_hide 20 = .ok (.getfield 257, 3) := dk_180 1 1 (dk_at dksX1_hide_0 20 rfl rfl)
theorem dX1_hide_23 : decode cX1_hide 23 = .ok (.iload_n 1, 1) := dk_27 (dk_at dksX1_hide_0 23 rfl rfl)
theorem dX1_hide_24 : decode cX1_hide 24 = .ok (.iconst 4, 1) := dk_7 (dk_at dksX1_hide_1 0 rfl rfl)
theorem dX1_hide_25 : decode cX1_hide 25 = .ok (.iconst 0, 1) := dk_3 (dk_at dksX1_hide_1 1 rfl rfl)
theorem dX1_hide_26 : decode cX1_hide 26 = .ok (.invokevirtual 140, 3) := dk_182 0 140 (dk_at dksX1_hide_1 2 rfl rfl)
theorem dX1_hide_29 : decode cX1_hide 29 = .ok (.return_, 1) := dk_177 (dk_at dksX1_hide_1 5 rfl rfl)
abbrev cX1_checkRoom : ByteArray := prog_1_method_42_code
def yX1_checkRoom : MethodName := ⟨RX1, "checkRoom", "(LCrateDeck$Container;)V"⟩
def dkwX1_checkRoom_1 : List UInt8 := [180, 0, 70, 182, 0, 147, 187, 0, 99, 89, 183, 0, 101, 191, 177]
abbrev dktX1_checkRoom_1 : List UInt8 := dkwX1_checkRoom_1 ++ []
def dkwX1_checkRoom_0 : List UInt8 := [43, 180, 1, 1, 180, 0, 133, 185, 0, 105, 1, 0, 16, 20, 164, 0, 22, 43, 180, 1, 1, 42]
abbrev dktX1_checkRoom_0 : List UInt8 := dkwX1_checkRoom_0 ++ dktX1_checkRoom_1
theorem dksX1_checkRoom_0 : cX1_checkRoom.data.toList.drop 0 = dktX1_checkRoom_0 := by decide +kernel
theorem dksX1_checkRoom_1 : cX1_checkRoom.data.toList.drop 22 = dktX1_checkRoom_1 := dk_seg dksX1_checkRoom_0 22 rfl rfl
theorem dX1_checkRoom_0 : decode cX1_checkRoom 0 = .ok (.aload_n 1, 1) := dk_43 (dk_at dksX1_checkRoom_0 0 rfl rfl)
theorem dX1_checkRoom_1 : decode cX1_checkRoom 1 = .ok (.getfield 257, 3) := dk_180 1 1 (dk_at dksX1_checkRoom_0 1 rfl rfl)
theorem dX1_checkRoom_4 : decode cX1_checkRoom 4 = .ok (.getfield 133, 3) := dk_180 0 133 (dk_at dksX1_checkRoom_0 4 rfl rfl)
theorem dX1_checkRoom_7 : decode cX1_checkRoom 7 = .ok (.invokeinterface 105 1, 5) := by decide +kernel
theorem dX1_checkRoom_12 : decode cX1_checkRoom 12 = .ok (.bipush 20, 2) := dk_16 20 (dk_at dksX1_checkRoom_0 12 rfl rfl)
theorem dX1_checkRoom_14 : decode cX1_checkRoom 14 = .ok (.if_icmp .le 22, 3) := dk_164 0 22 (dk_at dksX1_checkRoom_0 14 rfl rfl)
theorem dX1_checkRoom_17 : decode cX1_checkRoom 17 = .ok (.aload_n 1, 1) := dk_43 (dk_at dksX1_checkRoom_0 17 rfl rfl)
theorem dX1_checkRoom_18 : decode cX1_checkRoom 18 = .ok (.getfield 257, 3) := dk_180 1 1 (dk_at dksX1_checkRoom_0 18 rfl rfl)
theorem dX1_checkRoom_21 : decode cX1_checkRoom 21 = .ok (.aload_n 0, 1) := dk_42 (dk_at dksX1_checkRoom_0 21 rfl rfl)
theorem dX1_checkRoom_22 : decode cX1_checkRoom 22 = .ok (.getfield 70, 3) := dk_180 0 70 (dk_at dksX1_checkRoom_1 0 rfl rfl)
theorem dX1_checkRoom_25 : decode cX1_checkRoom 25 = .ok (.invokevirtual 147, 3) := dk_182 0 147 (dk_at dksX1_checkRoom_1 3 rfl rfl)
theorem dX1_checkRoom_28 : decode cX1_checkRoom 28 = .ok (.new 99, 3) := dk_187 0 99 (dk_at dksX1_checkRoom_1 6 rfl rfl)
theorem dX1_checkRoom_31 : decode cX1_checkRoom 31 = .ok (.dup, 1) := dk_89 (dk_at dksX1_checkRoom_1 9 rfl rfl)
theorem dX1_checkRoom_32 : decode cX1_checkRoom 32 = .ok (.invokespecial 101, 3) := dk_183 0 101 (dk_at dksX1_checkRoom_1 10 rfl rfl)
theorem dX1_checkRoom_35 : decode cX1_checkRoom 35 = .ok (.athrow, 1) := dk_191 (dk_at dksX1_checkRoom_1 13 rfl rfl)
theorem dX1_checkRoom_36 : decode cX1_checkRoom 36 = .ok (.return_, 1) := dk_177 (dk_at dksX1_checkRoom_1 14 rfl rfl)
abbrev cX1_move : ByteArray := prog_1_method_46_code
def yX1_move : MethodName := ⟨RX1, "move", "(III)V"⟩
def dkwX1_move_7 : List UInt8 := [182, 0, 140, 25, 4, 28, 184, 1, 67, 42, 25, 4, 182, 1, 71, 177]
abbrev dktX1_move_7 : List UInt8 := dkwX1_move_7 ++ []
def dkwX1_move_6 : List UInt8 := [42, 25, 4, 28, 29, 182, 1, 81, 167, 0, 24, 25, 4, 180, 1, 1, 29, 4, 21, 5, 16, 10, 100]
abbrev dktX1_move_6 : List UInt8 := dkwX1_move_6 ++ dktX1_move_7
def dkwX1_move_5 : List UInt8 := [182, 0, 207, 154, 0, 17, 25, 4, 28, 29, 184, 1, 77, 153, 0, 7, 4, 167, 0, 4, 3, 184, 0, 136]
abbrev dktX1_move_5 : List UInt8 := dkwX1_move_5 ++ dktX1_move_6
def dkwX1_move_4 : List UInt8 := [182, 0, 147, 21, 5, 5, 160, 0, 52, 29, 28, 184, 0, 210, 154, 0, 29, 25, 4, 180, 0, 251, 28]
abbrev dktX1_move_4 : List UInt8 := dkwX1_move_4 ++ dktX1_move_5
def dkwX1_move_3 : List UInt8 := [182, 1, 53, 5, 160, 0, 7, 4, 167, 0, 4, 3, 184, 0, 136, 42, 180, 0, 70, 25, 4, 180, 1, 1]
abbrev dktX1_move_3 : List UInt8 := dkwX1_move_3 ++ dktX1_move_4
def dkwX1_move_2 : List UInt8 := [167, 0, 4, 3, 184, 0, 136, 42, 25, 4, 29, 182, 1, 53, 154, 0, 21, 42, 25, 4, 29, 16, 10, 108]
abbrev dktX1_move_2 : List UInt8 := dkwX1_move_2 ++ dktX1_move_3
def dkwX1_move_1 : List UInt8 := [21, 5, 153, 0, 25, 25, 4, 28, 184, 1, 74, 153, 0, 16, 25, 4, 29, 184, 1, 74, 153, 0, 7, 4]
abbrev dktX1_move_1 : List UInt8 := dkwX1_move_1 ++ dktX1_move_2
def dkwX1_move_0 : List UInt8 := [42, 27, 182, 1, 23, 58, 4, 28, 184, 0, 122, 29, 184, 0, 122, 42, 25, 4, 28, 182, 1, 53, 54, 5]
abbrev dktX1_move_0 : List UInt8 := dkwX1_move_0 ++ dktX1_move_1
theorem dksX1_move_0 : cX1_move.data.toList.drop 0 = dktX1_move_0 := by decide +kernel
theorem dksX1_move_1 : cX1_move.data.toList.drop 24 = dktX1_move_1 := dk_seg dksX1_move_0 24 rfl rfl
theorem dksX1_move_2 : cX1_move.data.toList.drop 48 = dktX1_move_2 := dk_seg dksX1_move_1 24 rfl rfl
theorem dksX1_move_3 : cX1_move.data.toList.drop 72 = dktX1_move_3 := dk_seg dksX1_move_2 24 rfl rfl
theorem dksX1_move_4 : cX1_move.data.toList.drop 96 = dktX1_move_4 := dk_seg dksX1_move_3 24 rfl rfl
theorem dksX1_move_5 : cX1_move.data.toList.drop 119 = dktX1_move_5 := dk_seg dksX1_move_4 23 rfl rfl
theorem dksX1_move_6 : cX1_move.data.toList.drop 143 = dktX1_move_6 := dk_seg dksX1_move_5 24 rfl rfl
theorem dksX1_move_7 : cX1_move.data.toList.drop 166 = dktX1_move_7 := dk_seg dksX1_move_6 23 rfl rfl
theorem dX1_move_0 : decode cX1_move 0 = .ok (.aload_n 0, 1) := dk_42 (dk_at dksX1_move_0 0 rfl rfl)
theorem dX1_move_1 : decode cX1_move 1 = .ok (.iload_n 1, 1) := dk_27 (dk_at dksX1_move_0 1 rfl rfl)
theorem dX1_move_2 : decode cX1_move 2 = .ok (.invokevirtual 279, 3) := dk_182 1 23 (dk_at dksX1_move_0 2 rfl rfl)
theorem dX1_move_5 : decode cX1_move 5 = .ok (.astore 4, 2) := dk_58 4 (dk_at dksX1_move_0 5 rfl rfl)
theorem dX1_move_7 : decode cX1_move 7 = .ok (.iload_n 2, 1) := dk_28 (dk_at dksX1_move_0 7 rfl rfl)
theorem dX1_move_8 : decode cX1_move 8 = .ok (.invokestatic 122, 3) := dk_184 0 122 (dk_at dksX1_move_0 8 rfl rfl)
theorem dX1_move_11 : decode cX1_move 11 = .ok (.iload_n 3, 1) := dk_29 (dk_at dksX1_move_0 11 rfl rfl)
theorem dX1_move_12 : decode cX1_move 12 = .ok (.invokestatic 122, 3) := dk_184 0 122 (dk_at dksX1_move_0 12 rfl rfl)
theorem dX1_move_15 : decode cX1_move 15 = .ok (.aload_n 0, 1) := dk_42 (dk_at dksX1_move_0 15 rfl rfl)
theorem dX1_move_16 : decode cX1_move 16 = .ok (.aload 4, 2) := dk_25 4 (dk_at dksX1_move_0 16 rfl rfl)
theorem dX1_move_18 : decode cX1_move 18 = .ok (.iload_n 2, 1) := dk_28 (dk_at dksX1_move_0 18 rfl rfl)
theorem dX1_move_19 : decode cX1_move 19 = .ok (.invokevirtual 309, 3) := dk_182 1 53 (dk_at dksX1_move_0 19 rfl rfl)
theorem dX1_move_22 : decode cX1_move 22 = .ok (.istore 5, 2) := dk_54 5 (dk_at dksX1_move_0 22 rfl rfl)
theorem dX1_move_24 : decode cX1_move 24 = .ok (.iload 5, 2) := dk_21 5 (dk_at dksX1_move_1 0 rfl rfl)
theorem dX1_move_26 : decode cX1_move 26 = .ok (.ifCond .eq 25, 3) := dk_153 0 25 (dk_at dksX1_move_1 2 rfl rfl)
theorem dX1_move_29 : decode cX1_move 29 = .ok (.aload 4, 2) := dk_25 4 (dk_at dksX1_move_1 5 rfl rfl)
theorem dX1_move_31 : decode cX1_move 31 = .ok (.iload_n 2, 1) := dk_28 (dk_at dksX1_move_1 7 rfl rfl)
theorem dX1_move_32 : decode cX1_move 32 = .ok (.invokestatic 330, 3) := dk_184 1 74 (dk_at dksX1_move_1 8 rfl rfl)
theorem dX1_move_35 : decode cX1_move 35 = .ok (.ifCond .eq 16, 3) := dk_153 0 16 (dk_at dksX1_move_1 11 rfl rfl)
theorem dX1_move_38 : decode cX1_move 38 = .ok (.aload 4, 2) := dk_25 4 (dk_at dksX1_move_1 14 rfl rfl)
theorem dX1_move_40 : decode cX1_move 40 = .ok (.iload_n 3, 1) := dk_29 (dk_at dksX1_move_1 16 rfl rfl)
theorem dX1_move_41 : decode cX1_move 41 = .ok (.invokestatic 330, 3) := dk_184 1 74 (dk_at dksX1_move_1 17 rfl rfl)
theorem dX1_move_44 : decode cX1_move 44 = .ok (.ifCond .eq 7, 3) := dk_153 0 7 (dk_at dksX1_move_1 20 rfl rfl)
theorem dX1_move_47 : decode cX1_move 47 = .ok (.iconst 1, 1) := dk_4 (dk_at dksX1_move_1 23 rfl rfl)
theorem dX1_move_48 : decode cX1_move 48 = .ok (.goto 4, 3) := dk_167 0 4 (dk_at dksX1_move_2 0 rfl rfl)
theorem dX1_move_51 : decode cX1_move 51 = .ok (.iconst 0, 1) := dk_3 (dk_at dksX1_move_2 3 rfl rfl)
theorem dX1_move_52 : decode cX1_move 52 = .ok (.invokestatic 136, 3) := dk_184 0 136 (dk_at dksX1_move_2 4 rfl rfl)
theorem dX1_move_55 : decode cX1_move 55 = .ok (.aload_n 0, 1) := dk_42 (dk_at dksX1_move_2 7 rfl rfl)
theorem dX1_move_56 : decode cX1_move 56 = .ok (.aload 4, 2) := dk_25 4 (dk_at dksX1_move_2 8 rfl rfl)
theorem dX1_move_58 : decode cX1_move 58 = .ok (.iload_n 3, 1) := dk_29 (dk_at dksX1_move_2 10 rfl rfl)
theorem dX1_move_59 : decode cX1_move 59 = .ok (.invokevirtual 309, 3) := dk_182 1 53 (dk_at dksX1_move_2 11 rfl rfl)
theorem dX1_move_62 : decode cX1_move 62 = .ok (.ifCond .ne 21, 3) := dk_154 0 21 (dk_at dksX1_move_2 14 rfl rfl)
theorem dX1_move_65 : decode cX1_move 65 = .ok (.aload_n 0, 1) := dk_42 (dk_at dksX1_move_2 17 rfl rfl)
theorem dX1_move_66 : decode cX1_move 66 = .ok (.aload 4, 2) := dk_25 4 (dk_at dksX1_move_2 18 rfl rfl)
theorem dX1_move_68 : decode cX1_move 68 = .ok (.iload_n 3, 1) := dk_29 (dk_at dksX1_move_2 20 rfl rfl)
theorem dX1_move_69 : decode cX1_move 69 = .ok (.bipush 10, 2) := dk_16 10 (dk_at dksX1_move_2 21 rfl rfl)
theorem dX1_move_71 : decode cX1_move 71 = .ok (.idiv, 1) := dk_108 (dk_at dksX1_move_2 23 rfl rfl)
theorem dX1_move_72 : decode cX1_move 72 = .ok (.invokevirtual 309, 3) := dk_182 1 53 (dk_at dksX1_move_3 0 rfl rfl)
theorem dX1_move_75 : decode cX1_move 75 = .ok (.iconst 2, 1) := dk_5 (dk_at dksX1_move_3 3 rfl rfl)
theorem dX1_move_76 : decode cX1_move 76 = .ok (.if_icmp .ne 7, 3) := dk_160 0 7 (dk_at dksX1_move_3 4 rfl rfl)
theorem dX1_move_79 : decode cX1_move 79 = .ok (.iconst 1, 1) := dk_4 (dk_at dksX1_move_3 7 rfl rfl)
theorem dX1_move_80 : decode cX1_move 80 = .ok (.goto 4, 3) := dk_167 0 4 (dk_at dksX1_move_3 8 rfl rfl)
theorem dX1_move_83 : decode cX1_move 83 = .ok (.iconst 0, 1) := dk_3 (dk_at dksX1_move_3 11 rfl rfl)
theorem dX1_move_84 : decode cX1_move 84 = .ok (.invokestatic 136, 3) := dk_184 0 136 (dk_at dksX1_move_3 12 rfl rfl)
theorem dX1_move_87 : decode cX1_move 87 = .ok (.aload_n 0, 1) := dk_42 (dk_at dksX1_move_3 15 rfl rfl)
theorem dX1_move_88 : decode cX1_move 88 = .ok (.getfield 70, 3) := dk_180 0 70 (dk_at dksX1_move_3 16 rfl rfl)
theorem dX1_move_91 : decode cX1_move 91 = .ok (.aload 4, 2) := dk_25 4 (dk_at dksX1_move_3 19 rfl rfl)
theorem dX1_move_93 : decode cX1_move 93 = .ok (.getfield 257, 3) := dk_180 1 1 (dk_at dksX1_move_3 21 rfl rfl)
theorem dX1_move_96 : decode cX1_move 96 = .ok (.invokevirtual 147, 3) := dk_182 0 147 (dk_at dksX1_move_4 0 rfl rfl)
theorem dX1_move_99 : decode cX1_move 99 = .ok (.iload 5, 2) := dk_21 5 (dk_at dksX1_move_4 3 rfl rfl)
theorem dX1_move_101 : decode cX1_move 101 = .ok (.iconst 2, 1) := dk_5 (dk_at dksX1_move_4 5 rfl rfl)
theorem dX1_move_102 : decode cX1_move 102 = .ok (.if_icmp .ne 52, 3) := dk_160 0 52 (dk_at dksX1_move_4 6 rfl rfl)
theorem dX1_move_105 : decode cX1_move 105 = .ok (.iload_n 3, 1) := dk_29 (dk_at dksX1_move_4 9 rfl rfl)
theorem dX1_move_106 : decode cX1_move 106 = .ok (.iload_n 2, 1) := dk_28 (dk_at dksX1_move_4 10 rfl rfl)
theorem dX1_move_107 : decode cX1_move 107 = .ok (.invokestatic 210, 3) := dk_184 0 210 (dk_at dksX1_move_4 11 rfl rfl)
theorem dX1_move_110 : decode cX1_move 110 = .ok (.ifCond .ne 29, 3) := dk_154 0 29 (dk_at dksX1_move_4 14 rfl rfl)
theorem dX1_move_113 : decode cX1_move 113 = .ok (.aload 4, 2) := dk_25 4 (dk_at dksX1_move_4 17 rfl rfl)
theorem dX1_move_115 : decode cX1_move 115 = .ok (.getfield 251, 3) := dk_180 0 251 (dk_at dksX1_move_4 19 rfl rfl)
theorem dX1_move_118 : decode cX1_move 118 = .ok (.iload_n 2, 1) := dk_28 (dk_at dksX1_move_4 22 rfl rfl)
theorem dX1_move_119 : decode cX1_move 119 = .ok (.invokevirtual 207, 3) := dk_182 0 207 (dk_at dksX1_move_5 0 rfl rfl)
theorem dX1_move_122 : decode cX1_move 122 = .ok (.ifCond .ne 17, 3) := dk_154 0 17 (dk_at dksX1_move_5 3 rfl rfl)
theorem dX1_move_125 : decode cX1_move 125 = .ok (.aload 4, 2) := dk_25 4 (dk_at dksX1_move_5 6 rfl rfl)
theorem dX1_move_127 : decode cX1_move 127 = .ok (.iload_n 2, 1) := dk_28 (dk_at dksX1_move_5 8 rfl rfl)
theorem dX1_move_128 : decode cX1_move 128 = .ok (.iload_n 3, 1) := dk_29 (dk_at dksX1_move_5 9 rfl rfl)
theorem dX1_move_129 : decode cX1_move 129 = .ok (.invokestatic 333, 3) := dk_184 1 77 (dk_at dksX1_move_5 10 rfl rfl)
theorem dX1_move_132 : decode cX1_move 132 = .ok (.ifCond .eq 7, 3) := dk_153 0 7 (dk_at dksX1_move_5 13 rfl rfl)
theorem dX1_move_135 : decode cX1_move 135 = .ok (.iconst 1, 1) := dk_4 (dk_at dksX1_move_5 16 rfl rfl)
theorem dX1_move_136 : decode cX1_move 136 = .ok (.goto 4, 3) := dk_167 0 4 (dk_at dksX1_move_5 17 rfl rfl)
theorem dX1_move_139 : decode cX1_move 139 = .ok (.iconst 0, 1) := dk_3 (dk_at dksX1_move_5 20 rfl rfl)
theorem dX1_move_140 : decode cX1_move 140 = .ok (.invokestatic 136, 3) := dk_184 0 136 (dk_at dksX1_move_5 21 rfl rfl)
theorem dX1_move_143 : decode cX1_move 143 = .ok (.aload_n 0, 1) := dk_42 (dk_at dksX1_move_6 0 rfl rfl)
theorem dX1_move_144 : decode cX1_move 144 = .ok (.aload 4, 2) := dk_25 4 (dk_at dksX1_move_6 1 rfl rfl)
theorem dX1_move_146 : decode cX1_move 146 = .ok (.iload_n 2, 1) := dk_28 (dk_at dksX1_move_6 3 rfl rfl)
theorem dX1_move_147 : decode cX1_move 147 = .ok (.iload_n 3, 1) := dk_29 (dk_at dksX1_move_6 4 rfl rfl)
theorem dX1_move_148 : decode cX1_move 148 = .ok (.invokevirtual 337, 3) := dk_182 1 81 (dk_at dksX1_move_6 5 rfl rfl)
theorem dX1_move_151 : decode cX1_move 151 = .ok (.goto 24, 3) := dk_167 0 24 (dk_at dksX1_move_6 8 rfl rfl)
theorem dX1_move_154 : decode cX1_move 154 = .ok (.aload 4, 2) := dk_25 4 (dk_at dksX1_move_6 11 rfl rfl)
theorem dX1_move_156 : decode cX1_move 156 = .ok (.getfield 257, 3) := dk_180 1 1 (dk_at dksX1_move_6 13 rfl rfl)
theorem dX1_move_159 : decode cX1_move 159 = .ok (.iload_n 3, 1) := dk_29 (dk_at dksX1_move_6 16 rfl rfl)
theorem dX1_move_160 : decode cX1_move 160 = .ok (.iconst 1, 1) := dk_4 (dk_at dksX1_move_6 17 rfl rfl)
theorem dX1_move_161 : decode cX1_move 161 = .ok (.iload 5, 2) := dk_21 5 (dk_at dksX1_move_6 18 rfl rfl)
theorem dX1_move_163 : decode cX1_move 163 = .ok (.bipush 10, 2) := dk_16 10 (dk_at dksX1_move_6 20 rfl rfl)
theorem dX1_move_165 : decode cX1_move 165 = .ok (.isub, 1) := dk_100 (dk_at dksX1_move_6 22 rfl rfl)
theorem dX1_move_166 : decode cX1_move 166 = .ok (.invokevirtual 140, 3) := dk_182 0 140 (dk_at dksX1_move_7 0 rfl rfl)
theorem dX1_move_169 : decode cX1_move 169 = .ok (.aload 4, 2) := dk_25 4 (dk_at dksX1_move_7 3 rfl rfl)
theorem dX1_move_171 : decode cX1_move 171 = .ok (.iload_n 2, 1) := dk_28 (dk_at dksX1_move_7 5 rfl rfl)
theorem dX1_move_172 : decode cX1_move 172 = .ok (.invokestatic 323, 3) := dk_184 1 67 (dk_at dksX1_move_7 6 rfl rfl)
theorem dX1_move_175 : decode cX1_move 175 = .ok (.aload_n 0, 1) := dk_42 (dk_at dksX1_move_7 9 rfl rfl)
theorem dX1_move_176 : decode cX1_move 176 = .ok (.aload 4, 2) := dk_25 4 (dk_at dksX1_move_7 10 rfl rfl)
theorem dX1_move_178 : decode cX1_move 178 = .ok (.invokevirtual 327, 3) := dk_182 1 71 (dk_at dksX1_move_7 12 rfl rfl)
theorem dX1_move_181 : decode cX1_move 181 = .ok (.return_, 1) := dk_177 (dk_at dksX1_move_7 15 rfl rfl)
abbrev cX1_isFree : ByteArray := prog_1_method_41_code
def yX1_isFree : MethodName := ⟨RX1, "isFree", "(LCrateDeck$Container;I)Z"⟩
def dkwX1_isFree_0 : List UInt8 := [42, 27, 182, 1, 43, 199, 0, 15, 42, 27, 182, 1, 64, 154, 0, 7, 4, 167, 0, 4, 3, 172]
abbrev dktX1_isFree_0 : List UInt8 := dkwX1_isFree_0 ++ []
theorem dksX1_isFree_0 : cX1_isFree.data.toList.drop 0 = dktX1_isFree_0 := by decide +kernel
theorem dX1_isFree_0 : decode cX1_isFree 0 = .ok (.aload_n 0, 1) := dk_42 (dk_at dksX1_isFree_0 0 rfl rfl)
theorem dX1_isFree_1 : decode cX1_isFree 1 = .ok (.iload_n 1, 1) := dk_27 (dk_at dksX1_isFree_0 1 rfl rfl)
theorem dX1_isFree_2 : decode cX1_isFree 2 = .ok (.invokevirtual 299, 3) := dk_182 1 43 (dk_at dksX1_isFree_0 2 rfl rfl)
theorem dX1_isFree_5 : decode cX1_isFree 5 = .ok (.ifnonnull 15, 3) := dk_199 0 15 (dk_at dksX1_isFree_0 5 rfl rfl)
theorem dX1_isFree_8 : decode cX1_isFree 8 = .ok (.aload_n 0, 1) := dk_42 (dk_at dksX1_isFree_0 8 rfl rfl)
theorem dX1_isFree_9 : decode cX1_isFree 9 = .ok (.iload_n 1, 1) := dk_27 (dk_at dksX1_isFree_0 9 rfl rfl)
theorem dX1_isFree_10 : decode cX1_isFree 10 = .ok (.invokevirtual 320, 3) := dk_182 1 64 (dk_at dksX1_isFree_0 10 rfl rfl)
theorem dX1_isFree_13 : decode cX1_isFree 13 = .ok (.ifCond .ne 7, 3) := dk_154 0 7 (dk_at dksX1_isFree_0 13 rfl rfl)
theorem dX1_isFree_16 : decode cX1_isFree 16 = .ok (.iconst 1, 1) := dk_4 (dk_at dksX1_isFree_0 16 rfl rfl)
theorem dX1_isFree_17 : decode cX1_isFree 17 = .ok (.goto 4, 3) := dk_167 0 4 (dk_at dksX1_isFree_0 17 rfl rfl)
theorem dX1_isFree_20 : decode cX1_isFree 20 = .ok (.iconst 0, 1) := dk_3 (dk_at dksX1_isFree_0 20 rfl rfl)
theorem dX1_isFree_21 : decode cX1_isFree 21 = .ok (.ireturn, 1) := dk_172 (dk_at dksX1_isFree_0 21 rfl rfl)
abbrev cX1_canHold : ByteArray := prog_1_method_44_code
def yX1_canHold : MethodName := ⟨RX1, "canHold", "(LCrateDeck$Container;II)Z"⟩
def dkwX1_canHold_3 : List UInt8 := [163, 0, 7, 4, 167, 0, 4, 3, 126, 62, 132, 4, 1, 167, 255, 178, 29, 172]
abbrev dktX1_canHold_3 : List UInt8 := dkwX1_canHold_3 ++ []
def dkwX1_canHold_2 : List UInt8 := [27, 184, 0, 210, 153, 0, 22, 28, 184, 0, 3, 21, 5, 184, 0, 3, 96, 27, 184, 0, 3, 100, 6]
abbrev dktX1_canHold_2 : List UInt8 := dkwX1_canHold_2 ++ dktX1_canHold_3
def dkwX1_canHold_1 : List UInt8 := [180, 1, 1, 180, 0, 133, 21, 4, 185, 0, 109, 2, 0, 192, 0, 218, 182, 0, 222, 54, 5, 29, 21, 5]
abbrev dktX1_canHold_1 : List UInt8 := dkwX1_canHold_1 ++ dktX1_canHold_2
def dkwX1_canHold_0 : List UInt8 := [4, 62, 3, 54, 4, 21, 4, 42, 180, 1, 1, 180, 0, 133, 185, 0, 105, 1, 0, 162, 0, 67, 42]
abbrev dktX1_canHold_0 : List UInt8 := dkwX1_canHold_0 ++ dktX1_canHold_1
theorem dksX1_canHold_0 : cX1_canHold.data.toList.drop 0 = dktX1_canHold_0 := by decide +kernel
theorem dksX1_canHold_1 : cX1_canHold.data.toList.drop 23 = dktX1_canHold_1 := dk_seg dksX1_canHold_0 23 rfl rfl
theorem dksX1_canHold_2 : cX1_canHold.data.toList.drop 47 = dktX1_canHold_2 := dk_seg dksX1_canHold_1 24 rfl rfl
theorem dksX1_canHold_3 : cX1_canHold.data.toList.drop 70 = dktX1_canHold_3 := dk_seg dksX1_canHold_2 23 rfl rfl
theorem dX1_canHold_0 : decode cX1_canHold 0 = .ok (.iconst 1, 1) := dk_4 (dk_at dksX1_canHold_0 0 rfl rfl)
theorem dX1_canHold_1 : decode cX1_canHold 1 = .ok (.istore_n 3, 1) := dk_62 (dk_at dksX1_canHold_0 1 rfl rfl)
theorem dX1_canHold_2 : decode cX1_canHold 2 = .ok (.iconst 0, 1) := dk_3 (dk_at dksX1_canHold_0 2 rfl rfl)
theorem dX1_canHold_3 : decode cX1_canHold 3 = .ok (.istore 4, 2) := dk_54 4 (dk_at dksX1_canHold_0 3 rfl rfl)
theorem dX1_canHold_5 : decode cX1_canHold 5 = .ok (.iload 4, 2) := dk_21 4 (dk_at dksX1_canHold_0 5 rfl rfl)
theorem dX1_canHold_7 : decode cX1_canHold 7 = .ok (.aload_n 0, 1) := dk_42 (dk_at dksX1_canHold_0 7 rfl rfl)
theorem dX1_canHold_8 : decode cX1_canHold 8 = .ok (.getfield 257, 3) := dk_180 1 1 (dk_at dksX1_canHold_0 8 rfl rfl)
theorem dX1_canHold_11 : decode cX1_canHold 11 = .ok (.getfield 133, 3) := dk_180 0 133 (dk_at dksX1_canHold_0 11 rfl rfl)
theorem dX1_canHold_14 : decode cX1_canHold 14 = .ok (.invokeinterface 105 1, 5) := by decide +kernel
theorem dX1_canHold_19 : decode cX1_canHold 19 = .ok (.if_icmp .ge 67, 3) := dk_162 0 67 (dk_at dksX1_canHold_0 19 rfl rfl)
theorem dX1_canHold_22 : decode cX1_canHold 22 = .ok (.aload_n 0, 1) := dk_42 (dk_at dksX1_canHold_0 22 rfl rfl)
theorem dX1_canHold_23 : decode cX1_canHold 23 = .ok (.getfield 257, 3) := dk_180 1 1 (dk_at dksX1_canHold_1 0 rfl rfl)
theorem dX1_canHold_26 : decode cX1_canHold 26 = .ok (.getfield 133, 3) := dk_180 0 133 (dk_at dksX1_canHold_1 3 rfl rfl)
theorem dX1_canHold_29 : decode cX1_canHold 29 = .ok (.iload 4, 2) := dk_21 4 (dk_at dksX1_canHold_1 6 rfl rfl)
theorem dX1_canHold_31 : decode cX1_canHold 31 = .ok (.invokeinterface 109 2, 5) := by decide +kernel
theorem dX1_canHold_36 : decode cX1_canHold 36 = .ok (.checkcast 218, 3) := dk_192 0 218 (dk_at dksX1_canHold_1 13 rfl rfl)
theorem dX1_canHold_39 : decode cX1_canHold 39 = .ok (.invokevirtual 222, 3) := dk_182 0 222 (dk_at dksX1_canHold_1 16 rfl rfl)
theorem dX1_canHold_42 : decode cX1_canHold 42 = .ok (.istore 5, 2) := dk_54 5 (dk_at dksX1_canHold_1 19 rfl rfl)
theorem dX1_canHold_44 : decode cX1_canHold 44 = .ok (.iload_n 3, 1) := dk_29 (dk_at dksX1_canHold_1 21 rfl rfl)
theorem dX1_canHold_45 : decode cX1_canHold 45 = .ok (.iload 5, 2) := dk_21 5 (dk_at dksX1_canHold_1 22 rfl rfl)
theorem dX1_canHold_47 : decode cX1_canHold 47 = .ok (.iload_n 1, 1) := dk_27 (dk_at dksX1_canHold_2 0 rfl rfl)
theorem dX1_canHold_48 : decode cX1_canHold 48 = .ok (.invokestatic 210, 3) := dk_184 0 210 (dk_at dksX1_canHold_2 1 rfl rfl)
theorem dX1_canHold_51 : decode cX1_canHold 51 = .ok (.ifCond .eq 22, 3) := dk_153 0 22 (dk_at dksX1_canHold_2 4 rfl rfl)
theorem dX1_canHold_54 : decode cX1_canHold 54 = .ok (.iload_n 2, 1) := dk_28 (dk_at dksX1_canHold_2 7 rfl rfl)
theorem dX1_canHold_55 : decode cX1_canHold 55 = .ok (.invokestatic 3, 3) := dk_184 0 3 (dk_at dksX1_canHold_2 8 rfl rfl)
theorem dX1_canHold_58 : decode cX1_canHold 58 = .ok (.iload 5, 2) := dk_21 5 (dk_at dksX1_canHold_2 11 rfl rfl)
theorem dX1_canHold_60 : decode cX1_canHold 60 = .ok (.invokestatic 3, 3) := dk_184 0 3 (dk_at dksX1_canHold_2 13 rfl rfl)
theorem dX1_canHold_63 : decode cX1_canHold 63 = .ok (.iadd, 1) := dk_96 (dk_at dksX1_canHold_2 16 rfl rfl)
theorem dX1_canHold_64 : decode cX1_canHold 64 = .ok (.iload_n 1, 1) := dk_27 (dk_at dksX1_canHold_2 17 rfl rfl)
theorem dX1_canHold_65 : decode cX1_canHold 65 = .ok (.invokestatic 3, 3) := dk_184 0 3 (dk_at dksX1_canHold_2 18 rfl rfl)
theorem dX1_canHold_68 : decode cX1_canHold 68 = .ok (.isub, 1) := dk_100 (dk_at dksX1_canHold_2 21 rfl rfl)
theorem dX1_canHold_69 : decode cX1_canHold 69 = .ok (.iconst 3, 1) := dk_6 (dk_at dksX1_canHold_2 22 rfl rfl)
theorem dX1_canHold_70 : decode cX1_canHold 70 = .ok (.if_icmp .gt 7, 3) := dk_163 0 7 (dk_at dksX1_canHold_3 0 rfl rfl)
theorem dX1_canHold_73 : decode cX1_canHold 73 = .ok (.iconst 1, 1) := dk_4 (dk_at dksX1_canHold_3 3 rfl rfl)
theorem dX1_canHold_74 : decode cX1_canHold 74 = .ok (.goto 4, 3) := dk_167 0 4 (dk_at dksX1_canHold_3 4 rfl rfl)
theorem dX1_canHold_77 : decode cX1_canHold 77 = .ok (.iconst 0, 1) := dk_3 (dk_at dksX1_canHold_3 7 rfl rfl)
theorem dX1_canHold_78 : decode cX1_canHold 78 = .ok (.iand, 1) := dk_126 (dk_at dksX1_canHold_3 8 rfl rfl)
theorem dX1_canHold_79 : decode cX1_canHold 79 = .ok (.istore_n 3, 1) := dk_62 (dk_at dksX1_canHold_3 9 rfl rfl)
theorem dX1_canHold_80 : decode cX1_canHold 80 = .ok (.iinc 4 1, 3) := dk_132 4 1 (dk_at dksX1_canHold_3 10 rfl rfl)
theorem dX1_canHold_83 : decode cX1_canHold 83 = .ok (.goto (-78), 3) := dk_167 255 178 (dk_at dksX1_canHold_3 13 rfl rfl)
theorem dX1_canHold_86 : decode cX1_canHold 86 = .ok (.iload_n 3, 1) := dk_29 (dk_at dksX1_canHold_3 16 rfl rfl)
theorem dX1_canHold_87 : decode cX1_canHold 87 = .ok (.ireturn, 1) := dk_172 (dk_at dksX1_canHold_3 17 rfl rfl)
abbrev cX1_moveFolder : ByteArray := prog_1_method_47_code
def yX1_moveFolder : MethodName := ⟨RX1, "moveFolder", "(LCrateDeck$Container;II)V"⟩
def dkwX1_moveFolder_5 : List UInt8 := [25, 6, 182, 0, 225, 182, 0, 140, 132, 5, 1, 167, 255, 148, 177]
abbrev dktX1_moveFolder_5 : List UInt8 := dkwX1_moveFolder_5 ++ []
def dkwX1_moveFolder_4 : List UInt8 := [29, 184, 1, 85, 21, 7, 153, 0, 12, 21, 4, 153, 0, 7, 6, 167, 0, 8, 25, 6, 182, 0, 217]
abbrev dktX1_moveFolder_4 : List UInt8 := dkwX1_moveFolder_4 ++ dktX1_moveFolder_5
def dkwX1_moveFolder_3 : List UInt8 := [182, 0, 222, 28, 160, 0, 7, 4, 167, 0, 4, 3, 54, 7, 43, 180, 1, 1, 25, 6, 182, 0, 222, 28]
abbrev dktX1_moveFolder_3 : List UInt8 := dkwX1_moveFolder_3 ++ dktX1_moveFolder_4
def dkwX1_moveFolder_2 : List UInt8 := [185, 0, 109, 2, 0, 192, 0, 218, 58, 6, 25, 6, 182, 0, 222, 28, 184, 0, 210, 153, 0, 60, 25, 6]
abbrev dktX1_moveFolder_2 : List UInt8 := dkwX1_moveFolder_2 ++ dktX1_moveFolder_3
def dkwX1_moveFolder_1 : List UInt8 := [180, 0, 133, 185, 0, 105, 1, 0, 162, 0, 97, 42, 180, 0, 70, 180, 0, 133, 21, 5]
abbrev dktX1_moveFolder_1 : List UInt8 := dkwX1_moveFolder_1 ++ dktX1_moveFolder_2
def dkwX1_moveFolder_0 : List UInt8 := [43, 29, 184, 1, 57, 54, 4, 43, 180, 1, 1, 28, 182, 1, 61, 3, 54, 5, 21, 5, 42, 180, 0, 70]
abbrev dktX1_moveFolder_0 : List UInt8 := dkwX1_moveFolder_0 ++ dktX1_moveFolder_1
theorem dksX1_moveFolder_0 : cX1_moveFolder.data.toList.drop 0 = dktX1_moveFolder_0 := by decide +kernel
theorem dksX1_moveFolder_1 : cX1_moveFolder.data.toList.drop 24 = dktX1_moveFolder_1 := dk_seg dksX1_moveFolder_0 24 rfl rfl
theorem dksX1_moveFolder_2 : cX1_moveFolder.data.toList.drop 44 = dktX1_moveFolder_2 := dk_seg dksX1_moveFolder_1 20 rfl rfl
theorem dksX1_moveFolder_3 : cX1_moveFolder.data.toList.drop 68 = dktX1_moveFolder_3 := dk_seg dksX1_moveFolder_2 24 rfl rfl
theorem dksX1_moveFolder_4 : cX1_moveFolder.data.toList.drop 92 = dktX1_moveFolder_4 := dk_seg dksX1_moveFolder_3 24 rfl rfl
theorem dksX1_moveFolder_5 : cX1_moveFolder.data.toList.drop 115 = dktX1_moveFolder_5 := dk_seg dksX1_moveFolder_4 23 rfl rfl
theorem dX1_moveFolder_0 : decode cX1_moveFolder 0 = .ok (.aload_n 1, 1) := dk_43 (dk_at dksX1_moveFolder_0 0 rfl rfl)
theorem dX1_moveFolder_1 : decode cX1_moveFolder 1 = .ok (.iload_n 3, 1) := dk_29 (dk_at dksX1_moveFolder_0 1 rfl rfl)
theorem dX1_moveFolder_2 : decode cX1_moveFolder 2 = .ok (.invokestatic 313, 3) := dk_184 1 57 (dk_at dksX1_moveFolder_0 2 rfl rfl)
theorem dX1_moveFolder_5 : decode cX1_moveFolder 5 = .ok (.istore 4, 2) := dk_54 4 (dk_at dksX1_moveFolder_0 5 rfl rfl)
theorem dX1_moveFolder_7 : decode cX1_moveFolder 7 = .ok (.aload_n 1, 1) := dk_43 (dk_at dksX1_moveFolder_0 7 rfl rfl)
theorem dX1_moveFolder_8 : decode cX1_moveFolder 8 = .ok (.getfield 257, 3) := dk_180 1 1 (dk_at dksX1_moveFolder_0 8 rfl rfl)
theorem dX1_moveFolder_11 : decode cX1_moveFolder 11 = .ok (.iload_n 2, 1) := dk_28 (dk_at dksX1_moveFolder_0 11 rfl rfl)
theorem dX1_moveFolder_12 : decode cX1_moveFolder 12 = .ok (.invokevirtual 317, 3) := dk_182 1 61 (dk_at dksX1_moveFolder_0 12 rfl rfl)
theorem dX1_moveFolder_15 : decode cX1_moveFolder 15 = .ok (.iconst 0, 1) := dk_3 (dk_at dksX1_moveFolder_0 15 rfl rfl)
theorem dX1_moveFolder_16 : decode cX1_moveFolder 16 = .ok (.istore 5, 2) := dk_54 5 (dk_at dksX1_moveFolder_0 16 rfl rfl)
theorem dX1_moveFolder_18 : decode cX1_moveFolder 18 = .ok (.iload 5, 2) := dk_21 5 (dk_at dksX1_moveFolder_0 18 rfl rfl)
theorem dX1_moveFolder_20 : decode cX1_moveFolder 20 = .ok (.aload_n 0, 1) := dk_42 (dk_at dksX1_moveFolder_0 20 rfl rfl)
theorem dX1_moveFolder_21 : decode cX1_moveFolder 21 = .ok (.getfield 70, 3) := dk_180 0 70 (dk_at dksX1_moveFolder_0 21 rfl rfl)
theorem dX1_moveFolder_24 : decode cX1_moveFolder 24 = .ok (.getfield 133, 3) := dk_180 0 133 (dk_at dksX1_moveFolder_1 0 rfl rfl)
theorem dX1_moveFolder_27 : decode cX1_moveFolder 27 = .ok (.invokeinterface 105 1, 5) := by decide +kernel
theorem dX1_moveFolder_32 : decode cX1_moveFolder 32 = .ok (.if_icmp .ge 97, 3) := dk_162 0 97 (dk_at dksX1_moveFolder_1 8 rfl rfl)
theorem dX1_moveFolder_35 : decode cX1_moveFolder 35 = .ok (.aload_n 0, 1) := dk_42 (dk_at dksX1_moveFolder_1 11 rfl rfl)
theorem dX1_moveFolder_36 : decode cX1_moveFolder 36 = .ok (.getfield 70, 3) := dk_180 0 70 (dk_at dksX1_moveFolder_1 12 rfl rfl)
theorem dX1_moveFolder_39 : decode cX1_moveFolder 39 = .ok (.getfield 133, 3) := dk_180 0 133 (dk_at dksX1_moveFolder_1 15 rfl rfl)
theorem dX1_moveFolder_42 : decode cX1_moveFolder 42 = .ok (.iload 5, 2) := dk_21 5 (dk_at dksX1_moveFolder_1 18 rfl rfl)
theorem dX1_moveFolder_44 : decode cX1_moveFolder 44 = .ok (.invokeinterface 109 2, 5) := by decide +kernel
theorem dX1_moveFolder_49 : decode cX1_moveFolder 49 = .ok (.checkcast 218, 3) := dk_192 0 218 (dk_at dksX1_moveFolder_2 5 rfl rfl)
theorem dX1_moveFolder_52 : decode cX1_moveFolder 52 = .ok (.astore 6, 2) := dk_58 6 (dk_at dksX1_moveFolder_2 8 rfl rfl)
theorem dX1_moveFolder_54 : decode cX1_moveFolder 54 = .ok (.aload 6, 2) := dk_25 6 (dk_at dksX1_moveFolder_2 10 rfl rfl)
theorem dX1_moveFolder_56 : decode cX1_moveFolder 56 = .ok (.invokevirtual 222, 3) := dk_182 0 222 (dk_at dksX1_moveFolder_2 12 rfl rfl)
theorem dX1_moveFolder_59 : decode cX1_moveFolder 59 = .ok (.iload_n 2, 1) := dk_28 (dk_at dksX1_moveFolder_2 15 rfl rfl)
theorem dX1_moveFolder_60 : decode cX1_moveFolder 60 = .ok (.invokestatic 210, 3) := dk_184 0 210 (dk_at dksX1_moveFolder_2 16 rfl rfl)
theorem dX1_moveFolder_63 : decode cX1_moveFolder 63 = .ok (.ifCond .eq 60, 3) := dk_153 0 60 (dk_at dksX1_moveFolder_2 19 rfl rfl)
theorem dX1_moveFolder_66 : decode cX1_moveFolder 66 = .ok (.aload 6, 2) := dk_25 6 (dk_at dksX1_moveFolder_2 22 rfl rfl)
theorem dX1_moveFolder_68 : decode cX1_moveFolder 68 = .ok (.invokevirtual 222, 3) := dk_182 0 222 (dk_at dksX1_moveFolder_3 0 rfl rfl)
theorem dX1_moveFolder_71 : decode cX1_moveFolder 71 = .ok (.iload_n 2, 1) := dk_28 (dk_at dksX1_moveFolder_3 3 rfl rfl)
theorem dX1_moveFolder_72 : decode cX1_moveFolder 72 = .ok (.if_icmp .ne 7, 3) := dk_160 0 7 (dk_at dksX1_moveFolder_3 4 rfl rfl)
theorem dX1_moveFolder_75 : decode cX1_moveFolder 75 = .ok (.iconst 1, 1) := dk_4 (dk_at dksX1_moveFolder_3 7 rfl rfl)
theorem dX1_moveFolder_76 : decode cX1_moveFolder 76 = .ok (.goto 4, 3) := dk_167 0 4 (dk_at dksX1_moveFolder_3 8 rfl rfl)
theorem dX1_moveFolder_79 : decode cX1_moveFolder 79 = .ok (.iconst 0, 1) := dk_3 (dk_at dksX1_moveFolder_3 11 rfl rfl)
theorem dX1_moveFolder_80 : decode cX1_moveFolder 80 = .ok (.istore 7, 2) := dk_54 7 (dk_at dksX1_moveFolder_3 12 rfl rfl)
theorem dX1_moveFolder_82 : decode cX1_moveFolder 82 = .ok (.aload_n 1, 1) := dk_43 (dk_at dksX1_moveFolder_3 14 rfl rfl)
theorem dX1_moveFolder_83 : decode cX1_moveFolder 83 = .ok (.getfield 257, 3) := dk_180 1 1 (dk_at dksX1_moveFolder_3 15 rfl rfl)
theorem dX1_moveFolder_86 : decode cX1_moveFolder 86 = .ok (.aload 6, 2) := dk_25 6 (dk_at dksX1_moveFolder_3 18 rfl rfl)
theorem dX1_moveFolder_88 : decode cX1_moveFolder 88 = .ok (.invokevirtual 222, 3) := dk_182 0 222 (dk_at dksX1_moveFolder_3 20 rfl rfl)
theorem dX1_moveFolder_91 : decode cX1_moveFolder 91 = .ok (.iload_n 2, 1) := dk_28 (dk_at dksX1_moveFolder_3 23 rfl rfl)
theorem dX1_moveFolder_92 : decode cX1_moveFolder 92 = .ok (.iload_n 3, 1) := dk_29 (dk_at dksX1_moveFolder_4 0 rfl rfl)
theorem dX1_moveFolder_93 : decode cX1_moveFolder 93 = .ok (.invokestatic 341, 3) := dk_184 1 85 (dk_at dksX1_moveFolder_4 1 rfl rfl)
theorem dX1_moveFolder_96 : decode cX1_moveFolder 96 = .ok (.iload 7, 2) := dk_21 7 (dk_at dksX1_moveFolder_4 4 rfl rfl)
theorem dX1_moveFolder_98 : decode cX1_moveFolder 98 = .ok (.ifCond .eq 12, 3) := dk_153 0 12 (dk_at dksX1_moveFolder_4 6 rfl rfl)
theorem dX1_moveFolder_101 : decode cX1_moveFolder 101 = .ok (.iload 4, 2) := dk_21 4 (dk_at dksX1_moveFolder_4 9 rfl rfl)
theorem dX1_moveFolder_103 : decode cX1_moveFolder 103 = .ok (.ifCond .eq 7, 3) := dk_153 0 7 (dk_at dksX1_moveFolder_4 11 rfl rfl)
theorem dX1_moveFolder_106 : decode cX1_moveFolder 106 = .ok (.iconst 3, 1) := dk_6 (dk_at dksX1_moveFolder_4 14 rfl rfl)
theorem dX1_moveFolder_107 : decode cX1_moveFolder 107 = .ok (.goto 8, 3) := dk_167 0 8 (dk_at dksX1_moveFolder_4 15 rfl rfl)
theorem dX1_moveFolder_110 : decode cX1_moveFolder 110 = .ok (.aload 6, 2) := dk_25 6 (dk_at dksX1_moveFolder_4 18 rfl rfl)
theorem dX1_moveFolder_112 : decode cX1_moveFolder 112 = .ok (.invokevirtual 217, 3) := dk_182 0 217 (dk_at dksX1_moveFolder_4 20 rfl rfl)
theorem dX1_moveFolder_115 : decode cX1_moveFolder 115 = .ok (.aload 6, 2) := dk_25 6 (dk_at dksX1_moveFolder_5 0 rfl rfl)
theorem dX1_moveFolder_117 : decode cX1_moveFolder 117 = .ok (.invokevirtual 225, 3) := dk_182 0 225 (dk_at dksX1_moveFolder_5 2 rfl rfl)
theorem dX1_moveFolder_120 : decode cX1_moveFolder 120 = .ok (.invokevirtual 140, 3) := dk_182 0 140 (dk_at dksX1_moveFolder_5 5 rfl rfl)
theorem dX1_moveFolder_123 : decode cX1_moveFolder 123 = .ok (.iinc 5 1, 3) := dk_132 5 1 (dk_at dksX1_moveFolder_5 8 rfl rfl)
theorem dX1_moveFolder_126 : decode cX1_moveFolder 126 = .ok (.goto (-108), 3) := dk_167 255 148 (dk_at dksX1_moveFolder_5 11 rfl rfl)
theorem dX1_moveFolder_129 : decode cX1_moveFolder 129 = .ok (.return_, 1) := dk_177 (dk_at dksX1_moveFolder_5 14 rfl rfl)
abbrev cX1_moved : ByteArray := prog_1_method_45_code
def yX1_moved : MethodName := ⟨RX1, "moved", "(III)I"⟩
def dkwX1_moved_1 : List UInt8 := [16, 10, 28, 104, 26, 16, 10, 112, 96, 167, 0, 12, 16, 100, 28, 104, 26, 16, 100, 112, 96, 172]
abbrev dktX1_moved_1 : List UInt8 := dkwX1_moved_1 ++ []
def dkwX1_moved_0 : List UInt8 := [26, 184, 0, 3, 27, 184, 0, 3, 100, 62, 29, 154, 0, 7, 28, 167, 0, 29, 29, 4, 160, 0, 15]
abbrev dktX1_moved_0 : List UInt8 := dkwX1_moved_0 ++ dktX1_moved_1
theorem dksX1_moved_0 : cX1_moved.data.toList.drop 0 = dktX1_moved_0 := by decide +kernel
theorem dksX1_moved_1 : cX1_moved.data.toList.drop 23 = dktX1_moved_1 := dk_seg dksX1_moved_0 23 rfl rfl
theorem dX1_moved_0 : decode cX1_moved 0 = .ok (.iload_n 0, 1) := dk_26 (dk_at dksX1_moved_0 0 rfl rfl)
theorem dX1_moved_1 : decode cX1_moved 1 = .ok (.invokestatic 3, 3) := dk_184 0 3 (dk_at dksX1_moved_0 1 rfl rfl)
theorem dX1_moved_4 : decode cX1_moved 4 = .ok (.iload_n 1, 1) := dk_27 (dk_at dksX1_moved_0 4 rfl rfl)
theorem dX1_moved_5 : decode cX1_moved 5 = .ok (.invokestatic 3, 3) := dk_184 0 3 (dk_at dksX1_moved_0 5 rfl rfl)
theorem dX1_moved_8 : decode cX1_moved 8 = .ok (.isub, 1) := dk_100 (dk_at dksX1_moved_0 8 rfl rfl)
theorem dX1_moved_9 : decode cX1_moved 9 = .ok (.istore_n 3, 1) := dk_62 (dk_at dksX1_moved_0 9 rfl rfl)
theorem dX1_moved_10 : decode cX1_moved 10 = .ok (.iload_n 3, 1) := dk_29 (dk_at dksX1_moved_0 10 rfl rfl)
theorem dX1_moved_11 : decode cX1_moved 11 = .ok (.ifCond .ne 7, 3) := dk_154 0 7 (dk_at dksX1_moved_0 11 rfl rfl)
theorem dX1_moved_14 : decode cX1_moved 14 = .ok (.iload_n 2, 1) := dk_28 (dk_at dksX1_moved_0 14 rfl rfl)
theorem dX1_moved_15 : decode cX1_moved 15 = .ok (.goto 29, 3) := dk_167 0 29 (dk_at dksX1_moved_0 15 rfl rfl)
theorem dX1_moved_18 : decode cX1_moved 18 = .ok (.iload_n 3, 1) := dk_29 (dk_at dksX1_moved_0 18 rfl rfl)
theorem dX1_moved_19 : decode cX1_moved 19 = .ok (.iconst 1, 1) := dk_4 (dk_at dksX1_moved_0 19 rfl rfl)
theorem dX1_moved_20 : decode cX1_moved 20 = .ok (.if_icmp .ne 15, 3) := dk_160 0 15 (dk_at dksX1_moved_0 20 rfl rfl)
theorem dX1_moved_23 : decode cX1_moved 23 = .ok (.bipush 10, 2) := dk_16 10 (dk_at dksX1_moved_1 0 rfl rfl)
theorem dX1_moved_25 : decode cX1_moved 25 = .ok (.iload_n 2, 1) := dk_28 (dk_at dksX1_moved_1 2 rfl rfl)
theorem dX1_moved_26 : decode cX1_moved 26 = .ok (.imul, 1) := dk_104 (dk_at dksX1_moved_1 3 rfl rfl)
theorem dX1_moved_27 : decode cX1_moved 27 = .ok (.iload_n 0, 1) := dk_26 (dk_at dksX1_moved_1 4 rfl rfl)
theorem dX1_moved_28 : decode cX1_moved 28 = .ok (.bipush 10, 2) := dk_16 10 (dk_at dksX1_moved_1 5 rfl rfl)
theorem dX1_moved_30 : decode cX1_moved 30 = .ok (.irem, 1) := dk_112 (dk_at dksX1_moved_1 7 rfl rfl)
theorem dX1_moved_31 : decode cX1_moved 31 = .ok (.iadd, 1) := dk_96 (dk_at dksX1_moved_1 8 rfl rfl)
theorem dX1_moved_32 : decode cX1_moved 32 = .ok (.goto 12, 3) := dk_167 0 12 (dk_at dksX1_moved_1 9 rfl rfl)
theorem dX1_moved_35 : decode cX1_moved 35 = .ok (.bipush 100, 2) := dk_16 100 (dk_at dksX1_moved_1 12 rfl rfl)
theorem dX1_moved_37 : decode cX1_moved 37 = .ok (.iload_n 2, 1) := dk_28 (dk_at dksX1_moved_1 14 rfl rfl)
theorem dX1_moved_38 : decode cX1_moved 38 = .ok (.imul, 1) := dk_104 (dk_at dksX1_moved_1 15 rfl rfl)
theorem dX1_moved_39 : decode cX1_moved 39 = .ok (.iload_n 0, 1) := dk_26 (dk_at dksX1_moved_1 16 rfl rfl)
theorem dX1_moved_40 : decode cX1_moved 40 = .ok (.bipush 100, 2) := dk_16 100 (dk_at dksX1_moved_1 17 rfl rfl)
theorem dX1_moved_42 : decode cX1_moved 42 = .ok (.irem, 1) := dk_112 (dk_at dksX1_moved_1 19 rfl rfl)
theorem dX1_moved_43 : decode cX1_moved 43 = .ok (.iadd, 1) := dk_96 (dk_at dksX1_moved_1 20 rfl rfl)
theorem dX1_moved_44 : decode cX1_moved 44 = .ok (.ireturn, 1) := dk_172 (dk_at dksX1_moved_1 21 rfl rfl)
abbrev cX1_mount : ByteArray := prog_1_method_48_code
def yX1_mount : MethodName := ⟨RX1, "mount", "(III)V"⟩
def dkwX1_mount_3 : List UInt8 := [185, 0, 76, 2, 0, 87, 177]
abbrev dktX1_mount_3 : List UInt8 := dkwX1_mount_3 ++ []
def dkwX1_mount_2 : List UInt8 := [167, 0, 4, 3, 184, 0, 136, 25, 4, 180, 1, 89, 187, 1, 48, 89, 28, 29, 183, 1, 92]
abbrev dktX1_mount_2 : List UInt8 := dkwX1_mount_2 ++ dktX1_mount_3
def dkwX1_mount_1 : List UInt8 := [184, 0, 125, 25, 4, 28, 184, 1, 74, 153, 0, 18, 42, 25, 4, 28, 182, 1, 53, 5, 160, 0, 7, 4]
abbrev dktX1_mount_1 : List UInt8 := dkwX1_mount_1 ++ dktX1_mount_2
def dkwX1_mount_0 : List UInt8 := [42, 27, 182, 1, 23, 58, 4, 29, 7, 184, 0, 191, 28, 184, 0, 122, 28, 184, 0, 3, 4, 5]
abbrev dktX1_mount_0 : List UInt8 := dkwX1_mount_0 ++ dktX1_mount_1
theorem dksX1_mount_0 : cX1_mount.data.toList.drop 0 = dktX1_mount_0 := by decide +kernel
theorem dksX1_mount_1 : cX1_mount.data.toList.drop 22 = dktX1_mount_1 := dk_seg dksX1_mount_0 22 rfl rfl
theorem dksX1_mount_2 : cX1_mount.data.toList.drop 46 = dktX1_mount_2 := dk_seg dksX1_mount_1 24 rfl rfl
theorem dksX1_mount_3 : cX1_mount.data.toList.drop 67 = dktX1_mount_3 := dk_seg dksX1_mount_2 21 rfl rfl
theorem dX1_mount_0 : decode cX1_mount 0 = .ok (.aload_n 0, 1) := dk_42 (dk_at dksX1_mount_0 0 rfl rfl)
theorem dX1_mount_1 : decode cX1_mount 1 = .ok (.iload_n 1, 1) := dk_27 (dk_at dksX1_mount_0 1 rfl rfl)
theorem dX1_mount_2 : decode cX1_mount 2 = .ok (.invokevirtual 279, 3) := dk_182 1 23 (dk_at dksX1_mount_0 2 rfl rfl)
theorem dX1_mount_5 : decode cX1_mount 5 = .ok (.astore 4, 2) := dk_58 4 (dk_at dksX1_mount_0 5 rfl rfl)
theorem dX1_mount_7 : decode cX1_mount 7 = .ok (.iload_n 3, 1) := dk_29 (dk_at dksX1_mount_0 7 rfl rfl)
theorem dX1_mount_8 : decode cX1_mount 8 = .ok (.iconst 4, 1) := dk_7 (dk_at dksX1_mount_0 8 rfl rfl)
theorem dX1_mount_9 : decode cX1_mount 9 = .ok (.invokestatic 191, 3) := dk_184 0 191 (dk_at dksX1_mount_0 9 rfl rfl)
theorem dX1_mount_12 : decode cX1_mount 12 = .ok (.iload_n 2, 1) := dk_28 (dk_at dksX1_mount_0 12 rfl rfl)
theorem dX1_mount_13 : decode cX1_mount 13 = .ok (.invokestatic 122, 3) := dk_184 0 122 (dk_at dksX1_mount_0 13 rfl rfl)
theorem dX1_mount_16 : decode cX1_mount 16 = .ok (.iload_n 2, 1) := dk_28 (dk_at dksX1_mount_0 16 rfl rfl)
theorem dX1_mount_17 : decode cX1_mount 17 = .ok (.invokestatic 3, 3) := dk_184 0 3 (dk_at dksX1_mount_0 17 rfl rfl)
theorem dX1_mount_20 : decode cX1_mount 20 = .ok (.iconst 1, 1) := dk_4 (dk_at dksX1_mount_0 20 rfl rfl)
theorem dX1_mount_21 : decode cX1_mount 21 = .ok (.iconst 2, 1) := dk_5 (dk_at dksX1_mount_0 21 rfl rfl)
theorem dX1_mount_22 : decode cX1_mount 22 = .ok (.invokestatic 125, 3) := dk_184 0 125 (dk_at dksX1_mount_1 0 rfl rfl)
theorem dX1_mount_25 : decode cX1_mount 25 = .ok (.aload 4, 2) := dk_25 4 (dk_at dksX1_mount_1 3 rfl rfl)
theorem dX1_mount_27 : decode cX1_mount 27 = .ok (.iload_n 2, 1) := dk_28 (dk_at dksX1_mount_1 5 rfl rfl)
theorem dX1_mount_28 : decode cX1_mount 28 = .ok (.invokestatic 330, 3) := dk_184 1 74 (dk_at dksX1_mount_1 6 rfl rfl)
theorem dX1_mount_31 : decode cX1_mount 31 = .ok (.ifCond .eq 18, 3) := dk_153 0 18 (dk_at dksX1_mount_1 9 rfl rfl)
theorem dX1_mount_34 : decode cX1_mount 34 = .ok (.aload_n 0, 1) := dk_42 (dk_at dksX1_mount_1 12 rfl rfl)
theorem dX1_mount_35 : decode cX1_mount 35 = .ok (.aload 4, 2) := dk_25 4 (dk_at dksX1_mount_1 13 rfl rfl)
theorem dX1_mount_37 : decode cX1_mount 37 = .ok (.iload_n 2, 1) := dk_28 (dk_at dksX1_mount_1 15 rfl rfl)
theorem dX1_mount_38 : decode cX1_mount 38 = .ok (.invokevirtual 309, 3) := dk_182 1 53 (dk_at dksX1_mount_1 16 rfl rfl)
theorem dX1_mount_41 : decode cX1_mount 41 = .ok (.iconst 2, 1) := dk_5 (dk_at dksX1_mount_1 19 rfl rfl)
theorem dX1_mount_42 : decode cX1_mount 42 = .ok (.if_icmp .ne 7, 3) := dk_160 0 7 (dk_at dksX1_mount_1 20 rfl rfl)
theorem dX1_mount_45 : decode cX1_mount 45 = .ok (.iconst 1, 1) := dk_4 (dk_at dksX1_mount_1 23 rfl rfl)
theorem dX1_mount_46 : decode cX1_mount 46 = .ok (.goto 4, 3) := dk_167 0 4 (dk_at dksX1_mount_2 0 rfl rfl)
theorem dX1_mount_49 : decode cX1_mount 49 = .ok (.iconst 0, 1) := dk_3 (dk_at dksX1_mount_2 3 rfl rfl)
theorem dX1_mount_50 : decode cX1_mount 50 = .ok (.invokestatic 136, 3) := dk_184 0 136 (dk_at dksX1_mount_2 4 rfl rfl)
theorem dX1_mount_53 : decode cX1_mount 53 = .ok (.aload 4, 2) := dk_25 4 (dk_at dksX1_mount_2 7 rfl rfl)
theorem dX1_mount_55 : decode cX1_mount 55 = .ok (.getfield 345, 3) := dk_180 1 89 (dk_at dksX1_mount_2 9 rfl rfl)
theorem dX1_mount_58 : decode cX1_mount 58 = .ok (.new 304, 3) := dk_187 1 48 (dk_at dksX1_mount_2 12 rfl rfl)
theorem dX1_mount_61 : decode cX1_mount 61 = .ok (.dup, 1) := dk_89 (dk_at dksX1_mount_2 15 rfl rfl)
theorem dX1_mount_62 : decode cX1_mount 62 = .ok (.iload_n 2, 1) := dk_28 (dk_at dksX1_mount_2 16 rfl rfl)
theorem dX1_mount_63 : decode cX1_mount 63 = .ok (.iload_n 3, 1) := dk_29 (dk_at dksX1_mount_2 17 rfl rfl)
theorem dX1_mount_64 : decode cX1_mount 64 = .ok (.invokespecial 348, 3) := dk_183 1 92 (dk_at dksX1_mount_2 18 rfl rfl)
theorem dX1_mount_67 : decode cX1_mount 67 = .ok (.invokeinterface 76 2, 5) := by decide +kernel
theorem dX1_mount_72 : decode cX1_mount 72 = .ok (.pop, 1) := dk_87 (dk_at dksX1_mount_3 5 rfl rfl)
theorem dX1_mount_73 : decode cX1_mount 73 = .ok (.return_, 1) := dk_177 (dk_at dksX1_mount_3 6 rfl rfl)
abbrev cX1_commit : ByteArray := prog_1_method_49_code
def yX1_commit : MethodName := ⟨RX1, "commit", "(I)I"⟩
def dkwX1_commit_2 : List UInt8 := [182, 0, 195, 172]
abbrev dktX1_commit_2 : List UInt8 := dkwX1_commit_2 ++ []
def dkwX1_commit_1 : List UInt8 := [167, 0, 4, 3, 184, 0, 136, 42, 44, 180, 1, 30, 44, 180, 1, 1, 42, 44, 180, 1, 1, 182, 0, 154]
abbrev dktX1_commit_1 : List UInt8 := dkwX1_commit_1 ++ dktX1_commit_2
def dkwX1_commit_0 : List UInt8 := [42, 27, 182, 1, 23, 77, 44, 180, 1, 1, 180, 0, 133, 185, 0, 105, 1, 0, 16, 10, 163, 0, 7, 4]
abbrev dktX1_commit_0 : List UInt8 := dkwX1_commit_0 ++ dktX1_commit_1
theorem dksX1_commit_0 : cX1_commit.data.toList.drop 0 = dktX1_commit_0 := by decide +kernel
theorem dksX1_commit_1 : cX1_commit.data.toList.drop 24 = dktX1_commit_1 := dk_seg dksX1_commit_0 24 rfl rfl
theorem dksX1_commit_2 : cX1_commit.data.toList.drop 48 = dktX1_commit_2 := dk_seg dksX1_commit_1 24 rfl rfl
theorem dX1_commit_0 : decode cX1_commit 0 = .ok (.aload_n 0, 1) := dk_42 (dk_at dksX1_commit_0 0 rfl rfl)
theorem dX1_commit_1 : decode cX1_commit 1 = .ok (.iload_n 1, 1) := dk_27 (dk_at dksX1_commit_0 1 rfl rfl)
theorem dX1_commit_2 : decode cX1_commit 2 = .ok (.invokevirtual 279, 3) := dk_182 1 23 (dk_at dksX1_commit_0 2 rfl rfl)
theorem dX1_commit_5 : decode cX1_commit 5 = .ok (.astore_n 2, 1) := dk_77 (dk_at dksX1_commit_0 5 rfl rfl)
theorem dX1_commit_6 : decode cX1_commit 6 = .ok (.aload_n 2, 1) := dk_44 (dk_at dksX1_commit_0 6 rfl rfl)
theorem dX1_commit_7 : decode cX1_commit 7 = .ok (.getfield 257, 3) := dk_180 1 1 (dk_at dksX1_commit_0 7 rfl rfl)
theorem dX1_commit_10 : decode cX1_commit 10 = .ok (.getfield 133, 3) := dk_180 0 133 (dk_at dksX1_commit_0 10 rfl rfl)
theorem dX1_commit_13 : decode cX1_commit 13 = .ok (.invokeinterface 105 1, 5) := by decide +kernel
theorem dX1_commit_18 : decode cX1_commit 18 = .ok (.bipush 10, 2) := dk_16 10 (dk_at dksX1_commit_0 18 rfl rfl)
theorem dX1_commit_20 : decode cX1_commit 20 = .ok (.if_icmp .gt 7, 3) := dk_163 0 7 (dk_at dksX1_commit_0 20 rfl rfl)
theorem dX1_commit_23 : decode cX1_commit 23 = .ok (.iconst 1, 1) := dk_4 (dk_at dksX1_commit_0 23 rfl rfl)
theorem dX1_commit_24 : decode cX1_commit 24 = .ok (.goto 4, 3) := dk_167 0 4 (dk_at dksX1_commit_1 0 rfl rfl)
theorem dX1_commit_27 : decode cX1_commit 27 = .ok (.iconst 0, 1) := dk_3 (dk_at dksX1_commit_1 3 rfl rfl)
theorem dX1_commit_28 : decode cX1_commit 28 = .ok (.invokestatic 136, 3) := dk_184 0 136 (dk_at dksX1_commit_1 4 rfl rfl)
theorem dX1_commit_31 : decode cX1_commit 31 = .ok (.aload_n 0, 1) := dk_42 (dk_at dksX1_commit_1 7 rfl rfl)
theorem dX1_commit_32 : decode cX1_commit 32 = .ok (.aload_n 2, 1) := dk_44 (dk_at dksX1_commit_1 8 rfl rfl)
theorem dX1_commit_33 : decode cX1_commit 33 = .ok (.getfield 286, 3) := dk_180 1 30 (dk_at dksX1_commit_1 9 rfl rfl)
theorem dX1_commit_36 : decode cX1_commit 36 = .ok (.aload_n 2, 1) := dk_44 (dk_at dksX1_commit_1 12 rfl rfl)
theorem dX1_commit_37 : decode cX1_commit 37 = .ok (.getfield 257, 3) := dk_180 1 1 (dk_at dksX1_commit_1 13 rfl rfl)
theorem dX1_commit_40 : decode cX1_commit 40 = .ok (.aload_n 0, 1) := dk_42 (dk_at dksX1_commit_1 16 rfl rfl)
theorem dX1_commit_41 : decode cX1_commit 41 = .ok (.aload_n 2, 1) := dk_44 (dk_at dksX1_commit_1 17 rfl rfl)
theorem dX1_commit_42 : decode cX1_commit 42 = .ok (.getfield 257, 3) := dk_180 1 1 (dk_at dksX1_commit_1 18 rfl rfl)
theorem dX1_commit_45 : decode cX1_commit 45 = .ok (.invokevirtual 154, 3) := dk_182 0 154 (dk_at dksX1_commit_1 21 rfl rfl)
theorem dX1_commit_48 : decode cX1_commit 48 = .ok (.invokevirtual 195, 3) := dk_182 0 195 (dk_at dksX1_commit_2 0 rfl rfl)
theorem dX1_commit_51 : decode cX1_commit 51 = .ok (.ireturn, 1) := dk_172 (dk_at dksX1_commit_2 3 rfl rfl)
abbrev cX1_user : ByteArray := prog_1_method_51_code
def yX1_user : MethodName := ⟨RX1, "user", "(I)I"⟩
def dkwX1_user_2 : List UInt8 := [87, 42, 180, 0, 38, 185, 0, 105, 1, 0, 4, 100, 172]
abbrev dktX1_user_2 : List UInt8 := dkwX1_user_2 ++ []
def dkwX1_user_1 : List UInt8 := [167, 0, 4, 3, 184, 0, 136, 42, 180, 0, 38, 187, 0, 82, 89, 27, 183, 0, 84, 185, 0, 76, 2, 0]
abbrev dktX1_user_1 : List UInt8 := dkwX1_user_1 ++ dktX1_user_2
def dkwX1_user_0 : List UInt8 := [42, 27, 4, 182, 1, 94, 87, 42, 180, 0, 38, 185, 0, 105, 1, 0, 16, 8, 162, 0, 7, 4]
abbrev dktX1_user_0 : List UInt8 := dkwX1_user_0 ++ dktX1_user_1
theorem dksX1_user_0 : cX1_user.data.toList.drop 0 = dktX1_user_0 := by decide +kernel
theorem dksX1_user_1 : cX1_user.data.toList.drop 22 = dktX1_user_1 := dk_seg dksX1_user_0 22 rfl rfl
theorem dksX1_user_2 : cX1_user.data.toList.drop 46 = dktX1_user_2 := dk_seg dksX1_user_1 24 rfl rfl
theorem dX1_user_0 : decode cX1_user 0 = .ok (.aload_n 0, 1) := dk_42 (dk_at dksX1_user_0 0 rfl rfl)
theorem dX1_user_1 : decode cX1_user 1 = .ok (.iload_n 1, 1) := dk_27 (dk_at dksX1_user_0 1 rfl rfl)
theorem dX1_user_2 : decode cX1_user 2 = .ok (.iconst 1, 1) := dk_4 (dk_at dksX1_user_0 2 rfl rfl)
theorem dX1_user_3 : decode cX1_user 3 = .ok (.invokevirtual 350, 3) := dk_182 1 94 (dk_at dksX1_user_0 3 rfl rfl)
theorem dX1_user_6 : decode cX1_user 6 = .ok (.pop, 1) := dk_87 (dk_at dksX1_user_0 6 rfl rfl)
theorem dX1_user_7 : decode cX1_user 7 = .ok (.aload_n 0, 1) := dk_42 (dk_at dksX1_user_0 7 rfl rfl)
theorem dX1_user_8 : decode cX1_user 8 = .ok (.getfield 38, 3) := dk_180 0 38 (dk_at dksX1_user_0 8 rfl rfl)
theorem dX1_user_11 : decode cX1_user 11 = .ok (.invokeinterface 105 1, 5) := by decide +kernel
theorem dX1_user_16 : decode cX1_user 16 = .ok (.bipush 8, 2) := dk_16 8 (dk_at dksX1_user_0 16 rfl rfl)
theorem dX1_user_18 : decode cX1_user 18 = .ok (.if_icmp .ge 7, 3) := dk_162 0 7 (dk_at dksX1_user_0 18 rfl rfl)
theorem dX1_user_21 : decode cX1_user 21 = .ok (.iconst 1, 1) := dk_4 (dk_at dksX1_user_0 21 rfl rfl)
theorem dX1_user_22 : decode cX1_user 22 = .ok (.goto 4, 3) := dk_167 0 4 (dk_at dksX1_user_1 0 rfl rfl)
theorem dX1_user_25 : decode cX1_user 25 = .ok (.iconst 0, 1) := dk_3 (dk_at dksX1_user_1 3 rfl rfl)
theorem dX1_user_26 : decode cX1_user 26 = .ok (.invokestatic 136, 3) := dk_184 0 136 (dk_at dksX1_user_1 4 rfl rfl)
theorem dX1_user_29 : decode cX1_user 29 = .ok (.aload_n 0, 1) := dk_42 (dk_at dksX1_user_1 7 rfl rfl)
theorem dX1_user_30 : decode cX1_user 30 = .ok (.getfield 38, 3) := dk_180 0 38 (dk_at dksX1_user_1 8 rfl rfl)
theorem dX1_user_33 : decode cX1_user 33 = .ok (.new 82, 3) := dk_187 0 82 (dk_at dksX1_user_1 11 rfl rfl)
theorem dX1_user_36 : decode cX1_user 36 = .ok (.dup, 1) := dk_89 (dk_at dksX1_user_1 14 rfl rfl)
theorem dX1_user_37 : decode cX1_user 37 = .ok (.iload_n 1, 1) := dk_27 (dk_at dksX1_user_1 15 rfl rfl)
theorem dX1_user_38 : decode cX1_user 38 = .ok (.invokespecial 84, 3) := dk_183 0 84 (dk_at dksX1_user_1 16 rfl rfl)
theorem dX1_user_41 : decode cX1_user 41 = .ok (.invokeinterface 76 2, 5) := by decide +kernel
theorem dX1_user_46 : decode cX1_user 46 = .ok (.pop, 1) := dk_87 (dk_at dksX1_user_2 0 rfl rfl)
theorem dX1_user_47 : decode cX1_user 47 = .ok (.aload_n 0, 1) := dk_42 (dk_at dksX1_user_2 1 rfl rfl)
theorem dX1_user_48 : decode cX1_user 48 = .ok (.getfield 38, 3) := dk_180 0 38 (dk_at dksX1_user_2 2 rfl rfl)
theorem dX1_user_51 : decode cX1_user 51 = .ok (.invokeinterface 105 1, 5) := by decide +kernel
theorem dX1_user_56 : decode cX1_user 56 = .ok (.iconst 1, 1) := dk_4 (dk_at dksX1_user_2 10 rfl rfl)
theorem dX1_user_57 : decode cX1_user 57 = .ok (.isub, 1) := dk_100 (dk_at dksX1_user_2 11 rfl rfl)
theorem dX1_user_58 : decode cX1_user 58 = .ok (.ireturn, 1) := dk_172 (dk_at dksX1_user_2 12 rfl rfl)
abbrev cX1_user_2 : ByteArray := prog_1_method_50_code
def yX1_user_2 : MethodName := ⟨RX1, "user", "(IZ)LCrateDeck$User;"⟩
def dkwX1_user_2_1 : List UInt8 := [192, 0, 82, 176]
abbrev dktX1_user_2_1 : List UInt8 := dkwX1_user_2_1 ++ []
def dkwX1_user_2_0 : List UInt8 := [27, 42, 180, 0, 38, 185, 0, 105, 1, 0, 184, 0, 191, 42, 180, 0, 38, 27, 185, 0, 109, 2, 0]
abbrev dktX1_user_2_0 : List UInt8 := dkwX1_user_2_0 ++ dktX1_user_2_1
theorem dksX1_user_2_0 : cX1_user_2.data.toList.drop 0 = dktX1_user_2_0 := by decide +kernel
theorem dksX1_user_2_1 : cX1_user_2.data.toList.drop 23 = dktX1_user_2_1 := dk_seg dksX1_user_2_0 23 rfl rfl
theorem dX1_user_2_0 : decode cX1_user_2 0 = .ok (.iload_n 1, 1) := dk_27 (dk_at dksX1_user_2_0 0 rfl rfl)
theorem dX1_user_2_1 : decode cX1_user_2 1 = .ok (.aload_n 0, 1) := dk_42 (dk_at dksX1_user_2_0 1 rfl rfl)
theorem dX1_user_2_2 : decode cX1_user_2 2 = .ok (.getfield 38, 3) := dk_180 0 38 (dk_at dksX1_user_2_0 2 rfl rfl)
theorem dX1_user_2_5 : decode cX1_user_2 5 = .ok (.invokeinterface 105 1, 5) := by decide +kernel
theorem dX1_user_2_10 : decode cX1_user_2 10 = .ok (.invokestatic 191, 3) := dk_184 0 191 (dk_at dksX1_user_2_0 10 rfl rfl)
theorem dX1_user_2_13 : decode cX1_user_2 13 = .ok (.aload_n 0, 1) := dk_42 (dk_at dksX1_user_2_0 13 rfl rfl)
theorem dX1_user_2_14 : decode cX1_user_2 14 = .ok (.getfield 38, 3) := dk_180 0 38 (dk_at dksX1_user_2_0 14 rfl rfl)
theorem dX1_user_2_17 : decode cX1_user_2 17 = .ok (.iload_n 1, 1) := dk_27 (dk_at dksX1_user_2_0 17 rfl rfl)
theorem dX1_user_2_18 : decode cX1_user_2 18 = .ok (.invokeinterface 109 2, 5) := by decide +kernel
theorem dX1_user_2_23 : decode cX1_user_2 23 = .ok (.checkcast 82, 3) := dk_192 0 82 (dk_at dksX1_user_2_1 0 rfl rfl)
theorem dX1_user_2_26 : decode cX1_user_2 26 = .ok (.areturn, 1) := dk_176 (dk_at dksX1_user_2_1 3 rfl rfl)
abbrev cX1_range : ByteArray := prog_1_method_52_code
def yX1_range : MethodName := ⟨RX1, "range", "(IIII)I"⟩
def dkwX1_range_6 : List UInt8 := [87, 25, 5, 180, 1, 104, 185, 0, 105, 1, 0, 172]
abbrev dktX1_range_6 : List UInt8 := dkwX1_range_6 ++ []
def dkwX1_range_5 : List UInt8 := [167, 255, 205, 25, 5, 180, 1, 104, 187, 1, 107, 89, 28, 29, 21, 4, 183, 1, 113, 185, 0, 76, 2, 0]
abbrev dktX1_range_5 : List UInt8 := dkwX1_range_5 ++ dktX1_range_6
def dkwX1_range_4 : List UInt8 := [192, 1, 107, 28, 29, 21, 4, 182, 1, 109, 154, 0, 7, 4, 167, 0, 4, 3, 184, 0, 136, 132, 6, 1]
abbrev dktX1_range_4 : List UInt8 := dkwX1_range_4 ++ dktX1_range_5
def dkwX1_range_3 : List UInt8 := [180, 1, 104, 185, 0, 105, 1, 0, 162, 0, 42, 25, 5, 180, 1, 104, 21, 6, 185, 0, 109, 2, 0]
abbrev dktX1_range_3 : List UInt8 := dkwX1_range_3 ++ dktX1_range_4
def dkwX1_range_2 : List UInt8 := [185, 0, 105, 1, 0, 6, 162, 0, 7, 4, 167, 0, 4, 3, 184, 0, 136, 3, 54, 6, 21, 6, 25, 5]
abbrev dktX1_range_2 : List UInt8 := dkwX1_range_2 ++ dktX1_range_3
def dkwX1_range_1 : List UInt8 := [21, 4, 4, 17, 3, 232, 28, 29, 184, 1, 98, 100, 184, 0, 125, 27, 153, 0, 21, 25, 5, 180, 1, 104]
abbrev dktX1_range_1 : List UInt8 := dkwX1_range_1 ++ dktX1_range_2
def dkwX1_range_0 : List UInt8 := [42, 27, 4, 182, 1, 94, 58, 5, 28, 3, 17, 3, 231, 184, 0, 125, 29, 3, 17, 3, 231, 184, 0, 125]
abbrev dktX1_range_0 : List UInt8 := dkwX1_range_0 ++ dktX1_range_1
theorem dksX1_range_0 : cX1_range.data.toList.drop 0 = dktX1_range_0 := by decide +kernel
theorem dksX1_range_1 : cX1_range.data.toList.drop 24 = dktX1_range_1 := dk_seg dksX1_range_0 24 rfl rfl
theorem dksX1_range_2 : cX1_range.data.toList.drop 48 = dktX1_range_2 := dk_seg dksX1_range_1 24 rfl rfl
theorem dksX1_range_3 : cX1_range.data.toList.drop 72 = dktX1_range_3 := dk_seg dksX1_range_2 24 rfl rfl
theorem dksX1_range_4 : cX1_range.data.toList.drop 95 = dktX1_range_4 := dk_seg dksX1_range_3 23 rfl rfl
theorem dksX1_range_5 : cX1_range.data.toList.drop 119 = dktX1_range_5 := dk_seg dksX1_range_4 24 rfl rfl
theorem dksX1_range_6 : cX1_range.data.toList.drop 143 = dktX1_range_6 := dk_seg dksX1_range_5 24 rfl rfl
theorem dX1_range_0 : decode cX1_range 0 = .ok (.aload_n 0, 1) := dk_42 (dk_at dksX1_range_0 0 rfl rfl)
theorem dX1_range_1 : decode cX1_range 1 = .ok (.iload_n 1, 1) := dk_27 (dk_at dksX1_range_0 1 rfl rfl)
theorem dX1_range_2 : decode cX1_range 2 = .ok (.iconst 1, 1) := dk_4 (dk_at dksX1_range_0 2 rfl rfl)
theorem dX1_range_3 : decode cX1_range 3 = .ok (.invokevirtual 350, 3) := dk_182 1 94 (dk_at dksX1_range_0 3 rfl rfl)
theorem dX1_range_6 : decode cX1_range 6 = .ok (.astore 5, 2) := dk_58 5 (dk_at dksX1_range_0 6 rfl rfl)
theorem dX1_range_8 : decode cX1_range 8 = .ok (.iload_n 2, 1) := dk_28 (dk_at dksX1_range_0 8 rfl rfl)
theorem dX1_range_9 : decode cX1_range 9 = .ok (.iconst 0, 1) := dk_3 (dk_at dksX1_range_0 9 rfl rfl)
theorem dX1_range_10 : decode cX1_range 10 = .ok (.sipush 999, 3) := dk_17 3 231 (dk_at dksX1_range_0 10 rfl rfl)
theorem dX1_range_13 : decode cX1_range 13 = .ok (.invokestatic 125, 3) := dk_184 0 125 (dk_at dksX1_range_0 13 rfl rfl)
theorem dX1_range_16 : decode cX1_range 16 = .ok (.iload_n 3, 1) := dk_29 (dk_at dksX1_range_0 16 rfl rfl)
theorem dX1_range_17 : decode cX1_range 17 = .ok (.iconst 0, 1) := dk_3 (dk_at dksX1_range_0 17 rfl rfl)
theorem dX1_range_18 : decode cX1_range 18 = .ok (.sipush 999, 3) := dk_17 3 231 (dk_at dksX1_range_0 18 rfl rfl)
theorem dX1_range_21 : decode cX1_range 21 = .ok (.invokestatic 125, 3) := dk_184 0 125 (dk_at dksX1_range_0 21 rfl rfl)
theorem dX1_range_24 : decode cX1_range 24 = .ok (.iload 4, 2) := dk_21 4 (dk_at dksX1_range_1 0 rfl rfl)
theorem dX1_range_26 : decode cX1_range 26 = .ok (.iconst 1, 1) := dk_4 (dk_at dksX1_range_1 2 rfl rfl)
theorem dX1_range_27 : decode cX1_range 27 = .ok (.sipush 1000, 3) := dk_17 3 232 (dk_at dksX1_range_1 3 rfl rfl)
theorem dX1_range_30 : decode cX1_range 30 = .ok (.iload_n 2, 1) := dk_28 (dk_at dksX1_range_1 6 rfl rfl)
theorem dX1_range_31 : decode cX1_range 31 = .ok (.iload_n 3, 1) := dk_29 (dk_at dksX1_range_1 7 rfl rfl)
theorem dX1_range_32 : decode cX1_range 32 = .ok (.invokestatic 354, 3) := dk_184 1 98 (dk_at dksX1_range_1 8 rfl rfl)
theorem dX1_range_35 : decode cX1_range 35 = .ok (.isub, 1) := dk_100 (dk_at dksX1_range_1 11 rfl rfl)
theorem dX1_range_36 : decode cX1_range 36 = .ok (.invokestatic 125, 3) := dk_184 0 125 (dk_at dksX1_range_1 12 rfl rfl)
theorem dX1_range_39 : decode cX1_range 39 = .ok (.iload_n 1, 1) := dk_27 (dk_at dksX1_range_1 15 rfl rfl)
theorem dX1_range_40 : decode cX1_range 40 = .ok (.ifCond .eq 21, 3) := dk_153 0 21 (dk_at dksX1_range_1 16 rfl rfl)
theorem dX1_range_43 : decode cX1_range 43 = .ok (.aload 5, 2) := dk_25 5 (dk_at dksX1_range_1 19 rfl rfl)
theorem dX1_range_45 : decode cX1_range 45 = .ok (.getfield 360, 3) := dk_180 1 104 (dk_at dksX1_range_1 21 rfl rfl)
theorem dX1_range_48 : decode cX1_range 48 = .ok (.invokeinterface 105 1, 5) := by decide +kernel
theorem dX1_range_53 : decode cX1_range 53 = .ok (.iconst 3, 1) := dk_6 (dk_at dksX1_range_2 5 rfl rfl)
theorem dX1_range_54 : decode cX1_range 54 = .ok (.if_icmp .ge 7, 3) := dk_162 0 7 (dk_at dksX1_range_2 6 rfl rfl)
theorem dX1_range_57 : decode cX1_range 57 = .ok (.iconst 1, 1) := dk_4 (dk_at dksX1_range_2 9 rfl rfl)
theorem dX1_range_58 : decode cX1_range 58 = .ok (.goto 4, 3) := dk_167 0 4 (dk_at dksX1_range_2 10 rfl rfl)
theorem dX1_range_61 : decode cX1_range 61 = .ok (.iconst 0, 1) := dk_3 (dk_at dksX1_range_2 13 rfl rfl)
theorem dX1_range_62 : decode cX1_range 62 = .ok (.invokestatic 136, 3) := dk_184 0 136 (dk_at dksX1_range_2 14 rfl rfl)
theorem dX1_range_65 : decode cX1_range 65 = .ok (.iconst 0, 1) := dk_3 (dk_at dksX1_range_2 17 rfl rfl)
theorem dX1_range_66 : decode cX1_range 66 = .ok (.istore 6, 2) := dk_54 6 (dk_at dksX1_range_2 18 rfl rfl)
theorem dX1_range_68 : decode cX1_range 68 = .ok (.iload 6, 2) := dk_21 6 (dk_at dksX1_range_2 20 rfl rfl)
theorem dX1_range_70 : decode cX1_range 70 = .ok (.aload 5, 2) := dk_25 5 (dk_at dksX1_range_2 22 rfl rfl)
theorem dX1_range_72 : decode cX1_range 72 = .ok (.getfield 360, 3) := dk_180 1 104 (dk_at dksX1_range_3 0 rfl rfl)
theorem dX1_range_75 : decode cX1_range 75 = .ok (.invokeinterface 105 1, 5) := by decide +kernel
theorem dX1_range_80 : decode cX1_range 80 = .ok (.if_icmp .ge 42, 3) := dk_162 0 42 (dk_at dksX1_range_3 8 rfl rfl)
theorem dX1_range_83 : decode cX1_range 83 = .ok (.aload 5, 2) := dk_25 5 (dk_at dksX1_range_3 11 rfl rfl)
theorem dX1_range_85 : decode cX1_range 85 = .ok (.getfield 360, 3) := dk_180 1 104 (dk_at dksX1_range_3 13 rfl rfl)
theorem dX1_range_88 : decode cX1_range 88 = .ok (.iload 6, 2) := dk_21 6 (dk_at dksX1_range_3 16 rfl rfl)
theorem dX1_range_90 : decode cX1_range 90 = .ok (.invokeinterface 109 2, 5) := by decide +kernel
theorem dX1_range_95 : decode cX1_range 95 = .ok (.checkcast 363, 3) := dk_192 1 107 (dk_at dksX1_range_4 0 rfl rfl)
theorem dX1_range_98 : decode cX1_range 98 = .ok (.iload_n 2, 1) := dk_28 (dk_at dksX1_range_4 3 rfl rfl)
theorem dX1_range_99 : decode cX1_range 99 = .ok (.iload_n 3, 1) := dk_29 (dk_at dksX1_range_4 4 rfl rfl)
theorem dX1_range_100 : decode cX1_range 100 = .ok (.iload 4, 2) := dk_21 4 (dk_at dksX1_range_4 5 rfl rfl)
theorem dX1_range_102 : decode cX1_range 102 = .ok (.invokevirtual 365, 3) := dk_182 1 109 (dk_at dksX1_range_4 7 rfl rfl)
theorem dX1_range_105 : decode cX1_range 105 = .ok (.ifCond .ne 7, 3) := dk_154 0 7 (dk_at dksX1_range_4 10 rfl rfl)
theorem dX1_range_108 : decode cX1_range 108 = .ok (.iconst 1, 1) := dk_4 (dk_at dksX1_range_4 13 rfl rfl)
theorem dX1_range_109 : decode cX1_range 109 = .ok (.goto 4, 3) := dk_167 0 4 (dk_at dksX1_range_4 14 rfl rfl)
theorem dX1_range_112 : decode cX1_range 112 = .ok (.iconst 0, 1) := dk_3 (dk_at dksX1_range_4 17 rfl rfl)
theorem dX1_range_113 : decode cX1_range 113 = .ok (.invokestatic 136, 3) := dk_184 0 136 (dk_at dksX1_range_4 18 rfl rfl)
theorem dX1_range_116 : decode cX1_range 116 = .ok (.iinc 6 1, 3) := dk_132 6 1 (dk_at dksX1_range_4 21 rfl rfl)
theorem dX1_range_119 : decode cX1_range 119 = .ok (.goto (-51), 3) := dk_167 255 205 (dk_at dksX1_range_5 0 rfl rfl)
theorem dX1_range_122 : decode cX1_range 122 = .ok (.aload 5, 2) := dk_25 5 (dk_at dksX1_range_5 3 rfl rfl)
theorem dX1_range_124 : decode cX1_range 124 = .ok (.getfield 360, 3) := dk_180 1 104 (dk_at dksX1_range_5 5 rfl rfl)
theorem dX1_range_127 : decode cX1_range 127 = .ok (.new 363, 3) := dk_187 1 107 (dk_at dksX1_range_5 8 rfl rfl)
theorem dX1_range_130 : decode cX1_range 130 = .ok (.dup, 1) := dk_89 (dk_at dksX1_range_5 11 rfl rfl)
theorem dX1_range_131 : decode cX1_range 131 = .ok (.iload_n 2, 1) := dk_28 (dk_at dksX1_range_5 12 rfl rfl)
theorem dX1_range_132 : decode cX1_range 132 = .ok (.iload_n 3, 1) := dk_29 (dk_at dksX1_range_5 13 rfl rfl)
theorem dX1_range_133 : decode cX1_range 133 = .ok (.iload 4, 2) := dk_21 4 (dk_at dksX1_range_5 14 rfl rfl)
theorem dX1_range_135 : decode cX1_range 135 = .ok (.invokespecial 369, 3) := dk_183 1 113 (dk_at dksX1_range_5 16 rfl rfl)
theorem dX1_range_138 : decode cX1_range 138 = .ok (.invokeinterface 76 2, 5) := by decide +kernel
theorem dX1_range_143 : decode cX1_range 143 = .ok (.pop, 1) := dk_87 (dk_at dksX1_range_6 0 rfl rfl)
theorem dX1_range_144 : decode cX1_range 144 = .ok (.aload 5, 2) := dk_25 5 (dk_at dksX1_range_6 1 rfl rfl)
theorem dX1_range_146 : decode cX1_range 146 = .ok (.getfield 360, 3) := dk_180 1 104 (dk_at dksX1_range_6 3 rfl rfl)
theorem dX1_range_149 : decode cX1_range 149 = .ok (.invokeinterface 105 1, 5) := by decide +kernel
theorem dX1_range_154 : decode cX1_range 154 = .ok (.ireturn, 1) := dk_172 (dk_at dksX1_range_6 11 rfl rfl)
abbrev cX1_hostId : ByteArray := prog_1_method_53_code
def yX1_hostId : MethodName := ⟨RX1, "hostId", "(II)I"⟩
def dkwX1_hostId_2 : List UInt8 := [180, 1, 114, 185, 0, 109, 2, 0, 192, 0, 82, 78, 167, 255, 217, 21, 4, 172]
abbrev dktX1_hostId_2 : List UInt8 := dkwX1_hostId_2 ++ []
def dkwX1_hostId_1 : List UInt8 := [159, 0, 37, 21, 4, 2, 159, 0, 31, 45, 21, 4, 182, 1, 117, 54, 4, 42, 180, 0, 38, 45]
abbrev dktX1_hostId_1 : List UInt8 := dkwX1_hostId_1 ++ dktX1_hostId_2
def dkwX1_hostId_0 : List UInt8 := [42, 27, 4, 182, 1, 94, 78, 28, 3, 17, 3, 231, 184, 0, 125, 28, 54, 4, 45, 180, 1, 114, 2]
abbrev dktX1_hostId_0 : List UInt8 := dkwX1_hostId_0 ++ dktX1_hostId_1
theorem dksX1_hostId_0 : cX1_hostId.data.toList.drop 0 = dktX1_hostId_0 := by decide +kernel
theorem dksX1_hostId_1 : cX1_hostId.data.toList.drop 23 = dktX1_hostId_1 := dk_seg dksX1_hostId_0 23 rfl rfl
theorem dksX1_hostId_2 : cX1_hostId.data.toList.drop 45 = dktX1_hostId_2 := dk_seg dksX1_hostId_1 22 rfl rfl
theorem dX1_hostId_0 : decode cX1_hostId 0 = .ok (.aload_n 0, 1) := dk_42 (dk_at dksX1_hostId_0 0 rfl rfl)
theorem dX1_hostId_1 : decode cX1_hostId 1 = .ok (.iload_n 1, 1) := dk_27 (dk_at dksX1_hostId_0 1 rfl rfl)
theorem dX1_hostId_2 : decode cX1_hostId 2 = .ok (.iconst 1, 1) := dk_4 (dk_at dksX1_hostId_0 2 rfl rfl)
theorem dX1_hostId_3 : decode cX1_hostId 3 = .ok (.invokevirtual 350, 3) := dk_182 1 94 (dk_at dksX1_hostId_0 3 rfl rfl)
theorem dX1_hostId_6 : decode cX1_hostId 6 = .ok (.astore_n 3, 1) := dk_78 (dk_at dksX1_hostId_0 6 rfl rfl)
theorem dX1_hostId_7 : decode cX1_hostId 7 = .ok (.iload_n 2, 1) := dk_28 (dk_at dksX1_hostId_0 7 rfl rfl)
theorem dX1_hostId_8 : decode cX1_hostId 8 = .ok (.iconst 0, 1) := dk_3 (dk_at dksX1_hostId_0 8 rfl rfl)
theorem dX1_hostId_9 : decode cX1_hostId 9 = .ok (.sipush 999, 3) := dk_17 3 231 (dk_at dksX1_hostId_0 9 rfl rfl)
theorem dX1_hostId_12 : decode cX1_hostId 12 = .ok (.invokestatic 125, 3) := dk_184 0 125 (dk_at dksX1_hostId_0 12 rfl rfl)
theorem dX1_hostId_15 : decode cX1_hostId 15 = .ok (.iload_n 2, 1) := dk_28 (dk_at dksX1_hostId_0 15 rfl rfl)
theorem dX1_hostId_16 : decode cX1_hostId 16 = .ok (.istore 4, 2) := dk_54 4 (dk_at dksX1_hostId_0 16 rfl rfl)
theorem dX1_hostId_18 : decode cX1_hostId 18 = .ok (.aload_n 3, 1) := dk_45 (dk_at dksX1_hostId_0 18 rfl rfl)
theorem dX1_hostId_19 : decode cX1_hostId 19 = .ok (.getfield 370, 3) := dk_180 1 114 (dk_at dksX1_hostId_0 19 rfl rfl)
theorem dX1_hostId_22 : decode cX1_hostId 22 = .ok (.iconst (-1), 1) := dk_2 (dk_at dksX1_hostId_0 22 rfl rfl)
theorem dX1_hostId_23 : decode cX1_hostId 23 = .ok (.if_icmp .eq 37, 3) := dk_159 0 37 (dk_at dksX1_hostId_1 0 rfl rfl)
theorem dX1_hostId_26 : decode cX1_hostId 26 = .ok (.iload 4, 2) := dk_21 4 (dk_at dksX1_hostId_1 3 rfl rfl)
theorem dX1_hostId_28 : decode cX1_hostId 28 = .ok (.iconst (-1), 1) := dk_2 (dk_at dksX1_hostId_1 5 rfl rfl)
theorem dX1_hostId_29 : decode cX1_hostId 29 = .ok (.if_icmp .eq 31, 3) := dk_159 0 31 (dk_at dksX1_hostId_1 6 rfl rfl)
theorem dX1_hostId_32 : decode cX1_hostId 32 = .ok (.aload_n 3, 1) := dk_45 (dk_at dksX1_hostId_1 9 rfl rfl)
theorem dX1_hostId_33 : decode cX1_hostId 33 = .ok (.iload 4, 2) := dk_21 4 (dk_at dksX1_hostId_1 10 rfl rfl)
theorem dX1_hostId_35 : decode cX1_hostId 35 = .ok (.invokevirtual 373, 3) := dk_182 1 117 (dk_at dksX1_hostId_1 12 rfl rfl)
theorem dX1_hostId_38 : decode cX1_hostId 38 = .ok (.istore 4, 2) := dk_54 4 (dk_at dksX1_hostId_1 15 rfl rfl)
theorem dX1_hostId_40 : decode cX1_hostId 40 = .ok (.aload_n 0, 1) := dk_42 (dk_at dksX1_hostId_1 17 rfl rfl)
theorem dX1_hostId_41 : decode cX1_hostId 41 = .ok (.getfield 38, 3) := dk_180 0 38 (dk_at dksX1_hostId_1 18 rfl rfl)
theorem dX1_hostId_44 : decode cX1_hostId 44 = .ok (.aload_n 3, 1) := dk_45 (dk_at dksX1_hostId_1 21 rfl rfl)
theorem dX1_hostId_45 : decode cX1_hostId 45 = .ok (.getfield 370, 3) := dk_180 1 114 (dk_at dksX1_hostId_2 0 rfl rfl)
theorem dX1_hostId_48 : decode cX1_hostId 48 = .ok (.invokeinterface 109 2, 5) := by decide +kernel
theorem dX1_hostId_53 : decode cX1_hostId 53 = .ok (.checkcast 82, 3) := dk_192 0 82 (dk_at dksX1_hostId_2 8 rfl rfl)
theorem dX1_hostId_56 : decode cX1_hostId 56 = .ok (.astore_n 3, 1) := dk_78 (dk_at dksX1_hostId_2 11 rfl rfl)
theorem dX1_hostId_57 : decode cX1_hostId 57 = .ok (.goto (-39), 3) := dk_167 255 217 (dk_at dksX1_hostId_2 12 rfl rfl)
theorem dX1_hostId_60 : decode cX1_hostId 60 = .ok (.iload 4, 2) := dk_21 4 (dk_at dksX1_hostId_2 15 rfl rfl)
theorem dX1_hostId_62 : decode cX1_hostId 62 = .ok (.ireturn, 1) := dk_172 (dk_at dksX1_hostId_2 17 rfl rfl)
abbrev cX1_canAct : ByteArray := prog_1_method_54_code
def yX1_canAct : MethodName := ⟨RX1, "canAct", "(II)Z"⟩
def dkwX1_canAct_2 : List UInt8 := [27, 160, 0, 7, 4, 167, 0, 4, 3, 172]
abbrev dktX1_canAct_2 : List UInt8 := dkwX1_canAct_2 ++ []
def dkwX1_canAct_1 : List UInt8 := [159, 0, 23, 42, 180, 0, 38, 29, 185, 0, 109, 2, 0, 192, 0, 82, 180, 1, 114, 62, 167, 255, 229, 29]
abbrev dktX1_canAct_1 : List UInt8 := dkwX1_canAct_1 ++ dktX1_canAct_2
def dkwX1_canAct_0 : List UInt8 := [42, 27, 4, 182, 1, 94, 87, 42, 28, 4, 182, 1, 94, 87, 28, 62, 29, 2, 159, 0, 28, 29, 27]
abbrev dktX1_canAct_0 : List UInt8 := dkwX1_canAct_0 ++ dktX1_canAct_1
theorem dksX1_canAct_0 : cX1_canAct.data.toList.drop 0 = dktX1_canAct_0 := by decide +kernel
theorem dksX1_canAct_1 : cX1_canAct.data.toList.drop 23 = dktX1_canAct_1 := dk_seg dksX1_canAct_0 23 rfl rfl
theorem dksX1_canAct_2 : cX1_canAct.data.toList.drop 47 = dktX1_canAct_2 := dk_seg dksX1_canAct_1 24 rfl rfl
theorem dX1_canAct_0 : decode cX1_canAct 0 = .ok (.aload_n 0, 1) := dk_42 (dk_at dksX1_canAct_0 0 rfl rfl)
theorem dX1_canAct_1 : decode cX1_canAct 1 = .ok (.iload_n 1, 1) := dk_27 (dk_at dksX1_canAct_0 1 rfl rfl)
theorem dX1_canAct_2 : decode cX1_canAct 2 = .ok (.iconst 1, 1) := dk_4 (dk_at dksX1_canAct_0 2 rfl rfl)
theorem dX1_canAct_3 : decode cX1_canAct 3 = .ok (.invokevirtual 350, 3) := dk_182 1 94 (dk_at dksX1_canAct_0 3 rfl rfl)
theorem dX1_canAct_6 : decode cX1_canAct 6 = .ok (.pop, 1) := dk_87 (dk_at dksX1_canAct_0 6 rfl rfl)
theorem dX1_canAct_7 : decode cX1_canAct 7 = .ok (.aload_n 0, 1) := dk_42 (dk_at dksX1_canAct_0 7 rfl rfl)
theorem dX1_canAct_8 : decode cX1_canAct 8 = .ok (.iload_n 2, 1) := dk_28 (dk_at dksX1_canAct_0 8 rfl rfl)
theorem dX1_canAct_9 : decode cX1_canAct 9 = .ok (.iconst 1, 1) := dk_4 (dk_at dksX1_canAct_0 9 rfl rfl)
theorem dX1_canAct_10 : decode cX1_canAct 10 = .ok (.invokevirtual 350, 3) := dk_182 1 94 (dk_at dksX1_canAct_0 10 rfl rfl)
theorem dX1_canAct_13 : decode cX1_canAct 13 = .ok (.pop, 1) := dk_87 (dk_at dksX1_canAct_0 13 rfl rfl)
theorem dX1_canAct_14 : decode cX1_canAct 14 = .ok (.iload_n 2, 1) := dk_28 (dk_at dksX1_canAct_0 14 rfl rfl)
theorem dX1_canAct_15 : decode cX1_canAct 15 = .ok (.istore_n 3, 1) := dk_62 (dk_at dksX1_canAct_0 15 rfl rfl)
theorem dX1_canAct_16 : decode cX1_canAct 16 = .ok (.iload_n 3, 1) := dk_29 (dk_at dksX1_canAct_0 16 rfl rfl)
theorem dX1_canAct_17 : decode cX1_canAct 17 = .ok (.iconst (-1), 1) := dk_2 (dk_at dksX1_canAct_0 17 rfl rfl)
theorem dX1_canAct_18 : decode cX1_canAct 18 = .ok (.if_icmp .eq 28, 3) := dk_159 0 28 (dk_at dksX1_canAct_0 18 rfl rfl)
theorem dX1_canAct_21 : decode cX1_canAct 21 = .ok (.iload_n 3, 1) := dk_29 (dk_at dksX1_canAct_0 21 rfl rfl)
theorem dX1_canAct_22 : decode cX1_canAct 22 = .ok (.iload_n 1, 1) := dk_27 (dk_at dksX1_canAct_0 22 rfl rfl)
theorem dX1_canAct_23 : decode cX1_canAct 23 = .ok (.if_icmp .eq 23, 3) := dk_159 0 23 (dk_at dksX1_canAct_1 0 rfl rfl)
theorem dX1_canAct_26 : decode cX1_canAct 26 = .ok (.aload_n 0, 1) := dk_42 (dk_at dksX1_canAct_1 3 rfl rfl)
theorem dX1_canAct_27 : decode cX1_canAct 27 = .ok (.getfield 38, 3) := dk_180 0 38 (dk_at dksX1_canAct_1 4 rfl rfl)
theorem dX1_canAct_30 : decode cX1_canAct 30 = .ok (.iload_n 3, 1) := dk_29 (dk_at dksX1_canAct_1 7 rfl rfl)
theorem dX1_canAct_31 : decode cX1_canAct 31 = .ok (.invokeinterface 109 2, 5) := by decide +kernel
theorem dX1_canAct_36 : decode cX1_canAct 36 = .ok (.checkcast 82, 3) := dk_192 0 82 (dk_at dksX1_canAct_1 13 rfl rfl)
theorem dX1_canAct_39 : decode cX1_canAct 39 = .ok (.getfield 370, 3) := dk_180 1 114 (dk_at dksX1_canAct_1 16 rfl rfl)
theorem dX1_canAct_42 : decode cX1_canAct 42 = .ok (.istore_n 3, 1) := dk_62 (dk_at dksX1_canAct_1 19 rfl rfl)
theorem dX1_canAct_43 : decode cX1_canAct 43 = .ok (.goto (-27), 3) := dk_167 255 229 (dk_at dksX1_canAct_1 20 rfl rfl)
theorem dX1_canAct_46 : decode cX1_canAct 46 = .ok (.iload_n 3, 1) := dk_29 (dk_at dksX1_canAct_1 23 rfl rfl)
theorem dX1_canAct_47 : decode cX1_canAct 47 = .ok (.iload_n 1, 1) := dk_27 (dk_at dksX1_canAct_2 0 rfl rfl)
theorem dX1_canAct_48 : decode cX1_canAct 48 = .ok (.if_icmp .ne 7, 3) := dk_160 0 7 (dk_at dksX1_canAct_2 1 rfl rfl)
theorem dX1_canAct_51 : decode cX1_canAct 51 = .ok (.iconst 1, 1) := dk_4 (dk_at dksX1_canAct_2 4 rfl rfl)
theorem dX1_canAct_52 : decode cX1_canAct 52 = .ok (.goto 4, 3) := dk_167 0 4 (dk_at dksX1_canAct_2 5 rfl rfl)
theorem dX1_canAct_55 : decode cX1_canAct 55 = .ok (.iconst 0, 1) := dk_3 (dk_at dksX1_canAct_2 8 rfl rfl)
theorem dX1_canAct_56 : decode cX1_canAct 56 = .ok (.ireturn, 1) := dk_172 (dk_at dksX1_canAct_2 9 rfl rfl)
abbrev cX1_group : ByteArray := prog_1_method_56_code
def yX1_group : MethodName := ⟨RX1, "group", "(IIII)I"⟩
def dkwX1_group_3 : List UInt8 := [87, 42, 180, 0, 41, 185, 0, 105, 1, 0, 4, 100, 172]
abbrev dktX1_group_3 : List UInt8 := dkwX1_group_3 ++ []
def dkwX1_group_2 : List UInt8 := [184, 0, 136, 42, 180, 0, 41, 187, 0, 87, 89, 27, 28, 29, 21, 4, 183, 0, 89, 185, 0, 76, 2, 0]
abbrev dktX1_group_2 : List UInt8 := dkwX1_group_2 ++ dktX1_group_3
def dkwX1_group_1 : List UInt8 := [16, 99, 184, 0, 125, 42, 180, 0, 41, 185, 0, 105, 1, 0, 16, 8, 162, 0, 7, 4, 167, 0, 4, 3]
abbrev dktX1_group_1 : List UInt8 := dkwX1_group_1 ++ dktX1_group_2
def dkwX1_group_0 : List UInt8 := [42, 27, 182, 1, 120, 87, 28, 3, 16, 50, 184, 0, 125, 29, 3, 17, 39, 15, 184, 0, 125, 21, 4, 4]
abbrev dktX1_group_0 : List UInt8 := dkwX1_group_0 ++ dktX1_group_1
theorem dksX1_group_0 : cX1_group.data.toList.drop 0 = dktX1_group_0 := by decide +kernel
theorem dksX1_group_1 : cX1_group.data.toList.drop 24 = dktX1_group_1 := dk_seg dksX1_group_0 24 rfl rfl
theorem dksX1_group_2 : cX1_group.data.toList.drop 48 = dktX1_group_2 := dk_seg dksX1_group_1 24 rfl rfl
theorem dksX1_group_3 : cX1_group.data.toList.drop 72 = dktX1_group_3 := dk_seg dksX1_group_2 24 rfl rfl
theorem dX1_group_0 : decode cX1_group 0 = .ok (.aload_n 0, 1) := dk_42 (dk_at dksX1_group_0 0 rfl rfl)
theorem dX1_group_1 : decode cX1_group 1 = .ok (.iload_n 1, 1) := dk_27 (dk_at dksX1_group_0 1 rfl rfl)
theorem dX1_group_2 : decode cX1_group 2 = .ok (.invokevirtual 376, 3) := dk_182 1 120 (dk_at dksX1_group_0 2 rfl rfl)
theorem dX1_group_5 : decode cX1_group 5 = .ok (.pop, 1) := dk_87 (dk_at dksX1_group_0 5 rfl rfl)
theorem dX1_group_6 : decode cX1_group 6 = .ok (.iload_n 2, 1) := dk_28 (dk_at dksX1_group_0 6 rfl rfl)
theorem dX1_group_7 : decode cX1_group 7 = .ok (.iconst 0, 1) := dk_3 (dk_at dksX1_group_0 7 rfl rfl)
theorem dX1_group_8 : decode cX1_group 8 = .ok (.bipush 50, 2) := dk_16 50 (dk_at dksX1_group_0 8 rfl rfl)
theorem dX1_group_10 : decode cX1_group 10 = .ok (.invokestatic 125, 3) := dk_184 0 125 (dk_at dksX1_group_0 10 rfl rfl)
theorem dX1_group_13 : decode cX1_group 13 = .ok (.iload_n 3, 1) := dk_29 (dk_at dksX1_group_0 13 rfl rfl)
theorem dX1_group_14 : decode cX1_group 14 = .ok (.iconst 0, 1) := dk_3 (dk_at dksX1_group_0 14 rfl rfl)
theorem dX1_group_15 : decode cX1_group 15 = .ok (.sipush 9999, 3) := dk_17 39 15 (dk_at dksX1_group_0 15 rfl rfl)
theorem dX1_group_18 : decode cX1_group 18 = .ok (.invokestatic 125, 3) := dk_184 0 125 (dk_at dksX1_group_0 18 rfl rfl)
theorem dX1_group_21 : decode cX1_group 21 = .ok (.iload 4, 2) := dk_21 4 (dk_at dksX1_group_0 21 rfl rfl)
theorem dX1_group_23 : decode cX1_group 23 = .ok (.iconst 1, 1) := dk_4 (dk_at dksX1_group_0 23 rfl rfl)
theorem dX1_group_24 : decode cX1_group 24 = .ok (.bipush 99, 2) := dk_16 99 (dk_at dksX1_group_1 0 rfl rfl)
theorem dX1_group_26 : decode cX1_group 26 = .ok (.invokestatic 125, 3) := dk_184 0 125 (dk_at dksX1_group_1 2 rfl rfl)
theorem dX1_group_29 : decode cX1_group 29 = .ok (.aload_n 0, 1) := dk_42 (dk_at dksX1_group_1 5 rfl rfl)
theorem dX1_group_30 : decode cX1_group 30 = .ok (.getfield 41, 3) := dk_180 0 41 (dk_at dksX1_group_1 6 rfl rfl)
theorem dX1_group_33 : decode cX1_group 33 = .ok (.invokeinterface 105 1, 5) := by decide +kernel
theorem dX1_group_38 : decode cX1_group 38 = .ok (.bipush 8, 2) := dk_16 8 (dk_at dksX1_group_1 14 rfl rfl)
theorem dX1_group_40 : decode cX1_group 40 = .ok (.if_icmp .ge 7, 3) := dk_162 0 7 (dk_at dksX1_group_1 16 rfl rfl)
theorem dX1_group_43 : decode cX1_group 43 = .ok (.iconst 1, 1) := dk_4 (dk_at dksX1_group_1 19 rfl rfl)
theorem dX1_group_44 : decode cX1_group 44 = .ok (.goto 4, 3) := dk_167 0 4 (dk_at dksX1_group_1 20 rfl rfl)
theorem dX1_group_47 : decode cX1_group 47 = .ok (.iconst 0, 1) := dk_3 (dk_at dksX1_group_1 23 rfl rfl)
theorem dX1_group_48 : decode cX1_group 48 = .ok (.invokestatic 136, 3) := dk_184 0 136 (dk_at dksX1_group_2 0 rfl rfl)
theorem dX1_group_51 : decode cX1_group 51 = .ok (.aload_n 0, 1) := dk_42 (dk_at dksX1_group_2 3 rfl rfl)
theorem dX1_group_52 : decode cX1_group 52 = .ok (.getfield 41, 3) := dk_180 0 41 (dk_at dksX1_group_2 4 rfl rfl)
theorem dX1_group_55 : decode cX1_group 55 = .ok (.new 87, 3) := dk_187 0 87 (dk_at dksX1_group_2 7 rfl rfl)
theorem dX1_group_58 : decode cX1_group 58 = .ok (.dup, 1) := dk_89 (dk_at dksX1_group_2 10 rfl rfl)
theorem dX1_group_59 : decode cX1_group 59 = .ok (.iload_n 1, 1) := dk_27 (dk_at dksX1_group_2 11 rfl rfl)
theorem dX1_group_60 : decode cX1_group 60 = .ok (.iload_n 2, 1) := dk_28 (dk_at dksX1_group_2 12 rfl rfl)
theorem dX1_group_61 : decode cX1_group 61 = .ok (.iload_n 3, 1) := dk_29 (dk_at dksX1_group_2 13 rfl rfl)
theorem dX1_group_62 : decode cX1_group 62 = .ok (.iload 4, 2) := dk_21 4 (dk_at dksX1_group_2 14 rfl rfl)
theorem dX1_group_64 : decode cX1_group 64 = .ok (.invokespecial 89, 3) := dk_183 0 89 (dk_at dksX1_group_2 16 rfl rfl)
theorem dX1_group_67 : decode cX1_group 67 = .ok (.invokeinterface 76 2, 5) := by decide +kernel
theorem dX1_group_72 : decode cX1_group 72 = .ok (.pop, 1) := dk_87 (dk_at dksX1_group_3 0 rfl rfl)
theorem dX1_group_73 : decode cX1_group 73 = .ok (.aload_n 0, 1) := dk_42 (dk_at dksX1_group_3 1 rfl rfl)
theorem dX1_group_74 : decode cX1_group 74 = .ok (.getfield 41, 3) := dk_180 0 41 (dk_at dksX1_group_3 2 rfl rfl)
theorem dX1_group_77 : decode cX1_group 77 = .ok (.invokeinterface 105 1, 5) := by decide +kernel
theorem dX1_group_82 : decode cX1_group 82 = .ok (.iconst 1, 1) := dk_4 (dk_at dksX1_group_3 10 rfl rfl)
theorem dX1_group_83 : decode cX1_group 83 = .ok (.isub, 1) := dk_100 (dk_at dksX1_group_3 11 rfl rfl)
theorem dX1_group_84 : decode cX1_group 84 = .ok (.ireturn, 1) := dk_172 (dk_at dksX1_group_3 12 rfl rfl)
abbrev cX1_group_2 : ByteArray := prog_1_method_55_code
def yX1_group_2 : MethodName := ⟨RX1, "group", "(I)LCrateDeck$Group;"⟩
def dkwX1_group_2_1 : List UInt8 := [192, 0, 87, 176]
abbrev dktX1_group_2_1 : List UInt8 := dkwX1_group_2_1 ++ []
def dkwX1_group_2_0 : List UInt8 := [27, 42, 180, 0, 41, 185, 0, 105, 1, 0, 184, 0, 191, 42, 180, 0, 41, 27, 185, 0, 109, 2, 0]
abbrev dktX1_group_2_0 : List UInt8 := dkwX1_group_2_0 ++ dktX1_group_2_1
theorem dksX1_group_2_0 : cX1_group_2.data.toList.drop 0 = dktX1_group_2_0 := by decide +kernel
theorem dksX1_group_2_1 : cX1_group_2.data.toList.drop 23 = dktX1_group_2_1 := dk_seg dksX1_group_2_0 23 rfl rfl
theorem dX1_group_2_0 : decode cX1_group_2 0 = .ok (.iload_n 1, 1) := dk_27 (dk_at dksX1_group_2_0 0 rfl rfl)
theorem dX1_group_2_1 : decode cX1_group_2 1 = .ok (.aload_n 0, 1) := dk_42 (dk_at dksX1_group_2_0 1 rfl rfl)
theorem dX1_group_2_2 : decode cX1_group_2 2 = .ok (.getfield 41, 3) := dk_180 0 41 (dk_at dksX1_group_2_0 2 rfl rfl)
theorem dX1_group_2_5 : decode cX1_group_2 5 = .ok (.invokeinterface 105 1, 5) := by decide +kernel
theorem dX1_group_2_10 : decode cX1_group_2 10 = .ok (.invokestatic 191, 3) := dk_184 0 191 (dk_at dksX1_group_2_0 10 rfl rfl)
theorem dX1_group_2_13 : decode cX1_group_2 13 = .ok (.aload_n 0, 1) := dk_42 (dk_at dksX1_group_2_0 13 rfl rfl)
theorem dX1_group_2_14 : decode cX1_group_2 14 = .ok (.getfield 41, 3) := dk_180 0 41 (dk_at dksX1_group_2_0 14 rfl rfl)
theorem dX1_group_2_17 : decode cX1_group_2 17 = .ok (.iload_n 1, 1) := dk_27 (dk_at dksX1_group_2_0 17 rfl rfl)
theorem dX1_group_2_18 : decode cX1_group_2 18 = .ok (.invokeinterface 109 2, 5) := by decide +kernel
theorem dX1_group_2_23 : decode cX1_group_2 23 = .ok (.checkcast 87, 3) := dk_192 0 87 (dk_at dksX1_group_2_1 0 rfl rfl)
theorem dX1_group_2_26 : decode cX1_group_2 26 = .ok (.areturn, 1) := dk_176 (dk_at dksX1_group_2_1 3 rfl rfl)
abbrev cX1_run : ByteArray := prog_1_method_60_code
def yX1_run : MethodName := ⟨RX1, "run", "(II)I"⟩
def dkwX1_run_4 : List UInt8 := [180, 1, 138, 4, 96, 181, 1, 138, 42, 180, 1, 138, 4, 100, 172]
abbrev dktX1_run_4 : List UInt8 := dkwX1_run_4 ++ []
def dkwX1_run_3 : List UInt8 := [180, 0, 44, 187, 0, 119, 89, 42, 180, 1, 138, 27, 28, 183, 1, 141, 185, 0, 76, 2, 0, 87, 42, 89]
abbrev dktX1_run_3 : List UInt8 := dkwX1_run_3 ++ dktX1_run_4
def dkwX1_run_2 : List UInt8 := [184, 0, 136, 42, 180, 0, 41, 29, 185, 0, 109, 2, 0, 192, 0, 87, 180, 1, 124, 62, 167, 255, 202, 42]
abbrev dktX1_run_2 : List UInt8 := dkwX1_run_2 ++ dktX1_run_3
def dkwX1_run_1 : List UInt8 := [42, 180, 0, 41, 29, 185, 0, 109, 2, 0, 192, 0, 87, 180, 1, 136, 162, 0, 7, 4, 167, 0, 4, 3]
abbrev dktX1_run_1 : List UInt8 := dkwX1_run_1 ++ dktX1_run_2
def dkwX1_run_0 : List UInt8 := [42, 27, 182, 1, 23, 87, 42, 28, 182, 1, 120, 87, 28, 62, 29, 2, 159, 0, 55, 42, 29, 182, 1, 133]
abbrev dktX1_run_0 : List UInt8 := dkwX1_run_0 ++ dktX1_run_1
theorem dksX1_run_0 : cX1_run.data.toList.drop 0 = dktX1_run_0 := by decide +kernel
theorem dksX1_run_1 : cX1_run.data.toList.drop 24 = dktX1_run_1 := dk_seg dksX1_run_0 24 rfl rfl
theorem dksX1_run_2 : cX1_run.data.toList.drop 48 = dktX1_run_2 := dk_seg dksX1_run_1 24 rfl rfl
theorem dksX1_run_3 : cX1_run.data.toList.drop 72 = dktX1_run_3 := dk_seg dksX1_run_2 24 rfl rfl
theorem dksX1_run_4 : cX1_run.data.toList.drop 96 = dktX1_run_4 := dk_seg dksX1_run_3 24 rfl rfl
theorem dX1_run_0 : decode cX1_run 0 = .ok (.aload_n 0, 1) := dk_42 (dk_at dksX1_run_0 0 rfl rfl)
theorem dX1_run_1 : decode cX1_run 1 = .ok (.iload_n 1, 1) := dk_27 (dk_at dksX1_run_0 1 rfl rfl)
theorem dX1_run_2 : decode cX1_run 2 = .ok (.invokevirtual 279, 3) := dk_182 1 23 (dk_at dksX1_run_0 2 rfl rfl)
theorem dX1_run_5 : decode cX1_run 5 = .ok (.pop, 1) := dk_87 (dk_at dksX1_run_0 5 rfl rfl)
theorem dX1_run_6 : decode cX1_run 6 = .ok (.aload_n 0, 1) := dk_42 (dk_at dksX1_run_0 6 rfl rfl)
theorem dX1_run_7 : decode cX1_run 7 = .ok (.iload_n 2, 1) := dk_28 (dk_at dksX1_run_0 7 rfl rfl)
theorem dX1_run_8 : decode cX1_run 8 = .ok (.invokevirtual 376, 3) := dk_182 1 120 (dk_at dksX1_run_0 8 rfl rfl)
theorem dX1_run_11 : decode cX1_run 11 = .ok (.pop, 1) := dk_87 (dk_at dksX1_run_0 11 rfl rfl)
theorem dX1_run_12 : decode cX1_run 12 = .ok (.iload_n 2, 1) := dk_28 (dk_at dksX1_run_0 12 rfl rfl)
theorem dX1_run_13 : decode cX1_run 13 = .ok (.istore_n 3, 1) := dk_62 (dk_at dksX1_run_0 13 rfl rfl)
theorem dX1_run_14 : decode cX1_run 14 = .ok (.iload_n 3, 1) := dk_29 (dk_at dksX1_run_0 14 rfl rfl)
theorem dX1_run_15 : decode cX1_run 15 = .ok (.iconst (-1), 1) := dk_2 (dk_at dksX1_run_0 15 rfl rfl)
theorem dX1_run_16 : decode cX1_run 16 = .ok (.if_icmp .eq 55, 3) := dk_159 0 55 (dk_at dksX1_run_0 16 rfl rfl)
theorem dX1_run_19 : decode cX1_run 19 = .ok (.aload_n 0, 1) := dk_42 (dk_at dksX1_run_0 19 rfl rfl)
theorem dX1_run_20 : decode cX1_run 20 = .ok (.iload_n 3, 1) := dk_29 (dk_at dksX1_run_0 20 rfl rfl)
theorem dX1_run_21 : decode cX1_run 21 = .ok (.invokevirtual 389, 3) := dk_182 1 133 (dk_at dksX1_run_0 21 rfl rfl)
theorem dX1_run_24 : decode cX1_run 24 = .ok (.aload_n 0, 1) := dk_42 (dk_at dksX1_run_1 0 rfl rfl)
theorem dX1_run_25 : decode cX1_run 25 = .ok (.getfield 41, 3) := dk_180 0 41 (dk_at dksX1_run_1 1 rfl rfl)
theorem dX1_run_28 : decode cX1_run 28 = .ok (.iload_n 3, 1) := dk_29 (dk_at dksX1_run_1 4 rfl rfl)
theorem dX1_run_29 : decode cX1_run 29 = .ok (.invokeinterface 109 2, 5) := by decide +kernel
theorem dX1_run_34 : decode cX1_run 34 = .ok (.checkcast 87, 3) := dk_192 0 87 (dk_at dksX1_run_1 10 rfl rfl)
theorem dX1_run_37 : decode cX1_run 37 = .ok (.getfield 392, 3) := dk_180 1 136 (dk_at dksX1_run_1 13 rfl rfl)
theorem dX1_run_40 : decode cX1_run 40 = .ok (.if_icmp .ge 7, 3) := dk_162 0 7 (dk_at dksX1_run_1 16 rfl rfl)
theorem dX1_run_43 : decode cX1_run 43 = .ok (.iconst 1, 1) := dk_4 (dk_at dksX1_run_1 19 rfl rfl)
theorem dX1_run_44 : decode cX1_run 44 = .ok (.goto 4, 3) := dk_167 0 4 (dk_at dksX1_run_1 20 rfl rfl)
theorem dX1_run_47 : decode cX1_run 47 = .ok (.iconst 0, 1) := dk_3 (dk_at dksX1_run_1 23 rfl rfl)
theorem dX1_run_48 : decode cX1_run 48 = .ok (.invokestatic 136, 3) := dk_184 0 136 (dk_at dksX1_run_2 0 rfl rfl)
theorem dX1_run_51 : decode cX1_run 51 = .ok (.aload_n 0, 1) := dk_42 (dk_at dksX1_run_2 3 rfl rfl)
theorem dX1_run_52 : decode cX1_run 52 = .ok (.getfield 41, 3) := dk_180 0 41 (dk_at dksX1_run_2 4 rfl rfl)
theorem dX1_run_55 : decode cX1_run 55 = .ok (.iload_n 3, 1) := dk_29 (dk_at dksX1_run_2 7 rfl rfl)
theorem dX1_run_56 : decode cX1_run 56 = .ok (.invokeinterface 109 2, 5) := by decide +kernel
theorem dX1_run_61 : decode cX1_run 61 = .ok (.checkcast 87, 3) := dk_192 0 87 (dk_at dksX1_run_2 13 rfl rfl)
theorem dX1_run_64 : decode cX1_run 64 = .ok (.getfield 380, 3) := dk_180 1 124 (dk_at dksX1_run_2 16 rfl rfl)
theorem dX1_run_67 : decode cX1_run 67 = .ok (.istore_n 3, 1) := dk_62 (dk_at dksX1_run_2 19 rfl rfl)
theorem dX1_run_68 : decode cX1_run 68 = .ok (.goto (-54), 3) := dk_167 255 202 (dk_at dksX1_run_2 20 rfl rfl)
theorem dX1_run_71 : decode cX1_run 71 = .ok (.aload_n 0, 1) := dk_42 (dk_at dksX1_run_2 23 rfl rfl)
theorem dX1_run_72 : decode cX1_run 72 = .ok (.getfield 44, 3) := dk_180 0 44 (dk_at dksX1_run_3 0 rfl rfl)
theorem dX1_run_75 : decode cX1_run 75 = .ok (.new 119, 3) := dk_187 0 119 (dk_at dksX1_run_3 3 rfl rfl)
theorem dX1_run_78 : decode cX1_run 78 = .ok (.dup, 1) := dk_89 (dk_at dksX1_run_3 6 rfl rfl)
theorem dX1_run_79 : decode cX1_run 79 = .ok (.aload_n 0, 1) := dk_42 (dk_at dksX1_run_3 7 rfl rfl)
theorem dX1_run_80 : decode cX1_run 80 = .ok (.getfield 394, 3) := dk_180 1 138 (dk_at dksX1_run_3 8 rfl rfl)
theorem dX1_run_83 : decode cX1_run 83 = .ok (.iload_n 1, 1) := dk_27 (dk_at dksX1_run_3 11 rfl rfl)
theorem dX1_run_84 : decode cX1_run 84 = .ok (.iload_n 2, 1) := dk_28 (dk_at dksX1_run_3 12 rfl rfl)
theorem dX1_run_85 : decode cX1_run 85 = .ok (.invokespecial 397, 3) := dk_183 1 141 (dk_at dksX1_run_3 13 rfl rfl)
theorem dX1_run_88 : decode cX1_run 88 = .ok (.invokeinterface 76 2, 5) := by decide +kernel
theorem dX1_run_93 : decode cX1_run 93 = .ok (.pop, 1) := dk_87 (dk_at dksX1_run_3 21 rfl rfl)
theorem dX1_run_94 : decode cX1_run 94 = .ok (.aload_n 0, 1) := dk_42 (dk_at dksX1_run_3 22 rfl rfl)
theorem dX1_run_95 : decode cX1_run 95 = .ok (.dup, 1) := dk_89 (dk_at dksX1_run_3 23 rfl rfl)
theorem dX1_run_96 : decode cX1_run 96 = .ok (.getfield 394, 3) := dk_180 1 138 (dk_at dksX1_run_4 0 rfl rfl)
theorem dX1_run_99 : decode cX1_run 99 = .ok (.iconst 1, 1) := dk_4 (dk_at dksX1_run_4 3 rfl rfl)
theorem dX1_run_100 : decode cX1_run 100 = .ok (.iadd, 1) := dk_96 (dk_at dksX1_run_4 4 rfl rfl)
theorem dX1_run_101 : decode cX1_run 101 = .ok (.putfield 394, 3) := dk_181 1 138 (dk_at dksX1_run_4 5 rfl rfl)
theorem dX1_run_104 : decode cX1_run 104 = .ok (.aload_n 0, 1) := dk_42 (dk_at dksX1_run_4 8 rfl rfl)
theorem dX1_run_105 : decode cX1_run 105 = .ok (.getfield 394, 3) := dk_180 1 138 (dk_at dksX1_run_4 9 rfl rfl)
theorem dX1_run_108 : decode cX1_run 108 = .ok (.iconst 1, 1) := dk_4 (dk_at dksX1_run_4 12 rfl rfl)
theorem dX1_run_109 : decode cX1_run 109 = .ok (.isub, 1) := dk_100 (dk_at dksX1_run_4 13 rfl rfl)
theorem dX1_run_110 : decode cX1_run 110 = .ok (.ireturn, 1) := dk_172 (dk_at dksX1_run_4 14 rfl rfl)
abbrev cX1_manyIn : ByteArray := prog_1_method_58_code
def yX1_manyIn : MethodName := ⟨RX1, "manyIn", "(I)I"⟩
def dkwX1_manyIn_2 : List UInt8 := [61, 132, 3, 1, 167, 255, 208, 28, 172]
abbrev dktX1_manyIn_2 : List UInt8 := dkwX1_manyIn_2 ++ []
def dkwX1_manyIn_1 : List UInt8 := [185, 0, 109, 2, 0, 192, 0, 119, 180, 1, 125, 27, 182, 1, 127, 153, 0, 7, 4, 167, 0, 4, 3, 96]
abbrev dktX1_manyIn_1 : List UInt8 := dkwX1_manyIn_1 ++ dktX1_manyIn_2
def dkwX1_manyIn_0 : List UInt8 := [3, 61, 3, 62, 29, 42, 180, 0, 44, 185, 0, 105, 1, 0, 162, 0, 41, 28, 42, 42, 180, 0, 44, 29]
abbrev dktX1_manyIn_0 : List UInt8 := dkwX1_manyIn_0 ++ dktX1_manyIn_1
theorem dksX1_manyIn_0 : cX1_manyIn.data.toList.drop 0 = dktX1_manyIn_0 := by decide +kernel
theorem dksX1_manyIn_1 : cX1_manyIn.data.toList.drop 24 = dktX1_manyIn_1 := dk_seg dksX1_manyIn_0 24 rfl rfl
theorem dksX1_manyIn_2 : cX1_manyIn.data.toList.drop 48 = dktX1_manyIn_2 := dk_seg dksX1_manyIn_1 24 rfl rfl
theorem dX1_manyIn_0 : decode cX1_manyIn 0 = .ok (.iconst 0, 1) := dk_3 (dk_at dksX1_manyIn_0 0 rfl rfl)
theorem dX1_manyIn_1 : decode cX1_manyIn 1 = .ok (.istore_n 2, 1) := dk_61 (dk_at dksX1_manyIn_0 1 rfl rfl)
theorem dX1_manyIn_2 : decode cX1_manyIn 2 = .ok (.iconst 0, 1) := dk_3 (dk_at dksX1_manyIn_0 2 rfl rfl)
theorem dX1_manyIn_3 : decode cX1_manyIn 3 = .ok (.istore_n 3, 1) := dk_62 (dk_at dksX1_manyIn_0 3 rfl rfl)
theorem dX1_manyIn_4 : decode cX1_manyIn 4 = .ok (.iload_n 3, 1) := dk_29 (dk_at dksX1_manyIn_0 4 rfl rfl)
theorem dX1_manyIn_5 : decode cX1_manyIn 5 = .ok (.aload_n 0, 1) := dk_42 (dk_at dksX1_manyIn_0 5 rfl rfl)
theorem dX1_manyIn_6 : decode cX1_manyIn 6 = .ok (.getfield 44, 3) := dk_180 0 44 (dk_at dksX1_manyIn_0 6 rfl rfl)
theorem dX1_manyIn_9 : decode cX1_manyIn 9 = .ok (.invokeinterface 105 1, 5) := by decide +kernel
theorem dX1_manyIn_14 : decode cX1_manyIn 14 = .ok (.if_icmp .ge 41, 3) := dk_162 0 41 (dk_at dksX1_manyIn_0 14 rfl rfl)
theorem dX1_manyIn_17 : decode cX1_manyIn 17 = .ok (.iload_n 2, 1) := dk_28 (dk_at dksX1_manyIn_0 17 rfl rfl)
theorem dX1_manyIn_18 : decode cX1_manyIn 18 = .ok (.aload_n 0, 1) := dk_42 (dk_at dksX1_manyIn_0 18 rfl rfl)
theorem dX1_manyIn_19 : decode cX1_manyIn 19 = .ok (.aload_n 0, 1) := dk_42 (dk_at dksX1_manyIn_0 19 rfl rfl)
theorem dX1_manyIn_20 : decode cX1_manyIn 20 = .ok (.getfield 44, 3) := dk_180 0 44 (dk_at dksX1_manyIn_0 20 rfl rfl)
theorem dX1_manyIn_23 : decode cX1_manyIn 23 = .ok (.iload_n 3, 1) := dk_29 (dk_at dksX1_manyIn_0 23 rfl rfl)
theorem dX1_manyIn_24 : decode cX1_manyIn 24 = .ok (.invokeinterface 109 2, 5) := by decide +kernel
theorem dX1_manyIn_29 : decode cX1_manyIn 29 = .ok (.checkcast 119, 3) := dk_192 0 119 (dk_at dksX1_manyIn_1 5 rfl rfl)
theorem dX1_manyIn_32 : decode cX1_manyIn 32 = .ok (.getfield 381, 3) := dk_180 1 125 (dk_at dksX1_manyIn_1 8 rfl rfl)
theorem dX1_manyIn_35 : decode cX1_manyIn 35 = .ok (.iload_n 1, 1) := dk_27 (dk_at dksX1_manyIn_1 11 rfl rfl)
theorem dX1_manyIn_36 : decode cX1_manyIn 36 = .ok (.invokevirtual 383, 3) := dk_182 1 127 (dk_at dksX1_manyIn_1 12 rfl rfl)
theorem dX1_manyIn_39 : decode cX1_manyIn 39 = .ok (.ifCond .eq 7, 3) := dk_153 0 7 (dk_at dksX1_manyIn_1 15 rfl rfl)
theorem dX1_manyIn_42 : decode cX1_manyIn 42 = .ok (.iconst 1, 1) := dk_4 (dk_at dksX1_manyIn_1 18 rfl rfl)
theorem dX1_manyIn_43 : decode cX1_manyIn 43 = .ok (.goto 4, 3) := dk_167 0 4 (dk_at dksX1_manyIn_1 19 rfl rfl)
theorem dX1_manyIn_46 : decode cX1_manyIn 46 = .ok (.iconst 0, 1) := dk_3 (dk_at dksX1_manyIn_1 22 rfl rfl)
theorem dX1_manyIn_47 : decode cX1_manyIn 47 = .ok (.iadd, 1) := dk_96 (dk_at dksX1_manyIn_1 23 rfl rfl)
theorem dX1_manyIn_48 : decode cX1_manyIn 48 = .ok (.istore_n 2, 1) := dk_61 (dk_at dksX1_manyIn_2 0 rfl rfl)
theorem dX1_manyIn_49 : decode cX1_manyIn 49 = .ok (.iinc 3 1, 3) := dk_132 3 1 (dk_at dksX1_manyIn_2 1 rfl rfl)
theorem dX1_manyIn_52 : decode cX1_manyIn 52 = .ok (.goto (-48), 3) := dk_167 255 208 (dk_at dksX1_manyIn_2 4 rfl rfl)
theorem dX1_manyIn_55 : decode cX1_manyIn 55 = .ok (.iload_n 2, 1) := dk_28 (dk_at dksX1_manyIn_2 7 rfl rfl)
theorem dX1_manyIn_56 : decode cX1_manyIn 56 = .ok (.ireturn, 1) := dk_172 (dk_at dksX1_manyIn_2 8 rfl rfl)
abbrev cX1_isIn : ByteArray := prog_1_method_57_code
def yX1_isIn : MethodName := ⟨RX1, "isIn", "(II)Z"⟩
def dkwX1_isIn_1 : List UInt8 := [192, 0, 87, 180, 1, 124, 62, 167, 255, 229, 29, 28, 160, 0, 7, 4, 167, 0, 4, 3, 172]
abbrev dktX1_isIn_1 : List UInt8 := dkwX1_isIn_1 ++ []
def dkwX1_isIn_0 : List UInt8 := [27, 62, 29, 2, 159, 0, 28, 29, 28, 159, 0, 23, 42, 180, 0, 41, 29, 185, 0, 109, 2, 0]
abbrev dktX1_isIn_0 : List UInt8 := dkwX1_isIn_0 ++ dktX1_isIn_1
theorem dksX1_isIn_0 : cX1_isIn.data.toList.drop 0 = dktX1_isIn_0 := by decide +kernel
theorem dksX1_isIn_1 : cX1_isIn.data.toList.drop 22 = dktX1_isIn_1 := dk_seg dksX1_isIn_0 22 rfl rfl
theorem dX1_isIn_0 : decode cX1_isIn 0 = .ok (.iload_n 1, 1) := dk_27 (dk_at dksX1_isIn_0 0 rfl rfl)
theorem dX1_isIn_1 : decode cX1_isIn 1 = .ok (.istore_n 3, 1) := dk_62 (dk_at dksX1_isIn_0 1 rfl rfl)
theorem dX1_isIn_2 : decode cX1_isIn 2 = .ok (.iload_n 3, 1) := dk_29 (dk_at dksX1_isIn_0 2 rfl rfl)
theorem dX1_isIn_3 : decode cX1_isIn 3 = .ok (.iconst (-1), 1) := dk_2 (dk_at dksX1_isIn_0 3 rfl rfl)
theorem dX1_isIn_4 : decode cX1_isIn 4 = .ok (.if_icmp .eq 28, 3) := dk_159 0 28 (dk_at dksX1_isIn_0 4 rfl rfl)
theorem dX1_isIn_7 : decode cX1_isIn 7 = .ok (.iload_n 3, 1) := dk_29 (dk_at dksX1_isIn_0 7 rfl rfl)
theorem dX1_isIn_8 : decode cX1_isIn 8 = .ok (.iload_n 2, 1) := dk_28 (dk_at dksX1_isIn_0 8 rfl rfl)
theorem dX1_isIn_9 : decode cX1_isIn 9 = .ok (.if_icmp .eq 23, 3) := dk_159 0 23 (dk_at dksX1_isIn_0 9 rfl rfl)
theorem dX1_isIn_12 : decode cX1_isIn 12 = .ok (.aload_n 0, 1) := dk_42 (dk_at dksX1_isIn_0 12 rfl rfl)
theorem dX1_isIn_13 : decode cX1_isIn 13 = .ok (.getfield 41, 3) := dk_180 0 41 (dk_at dksX1_isIn_0 13 rfl rfl)
theorem dX1_isIn_16 : decode cX1_isIn 16 = .ok (.iload_n 3, 1) := dk_29 (dk_at dksX1_isIn_0 16 rfl rfl)
theorem dX1_isIn_17 : decode cX1_isIn 17 = .ok (.invokeinterface 109 2, 5) := by decide +kernel
theorem dX1_isIn_22 : decode cX1_isIn 22 = .ok (.checkcast 87, 3) := dk_192 0 87 (dk_at dksX1_isIn_1 0 rfl rfl)
theorem dX1_isIn_25 : decode cX1_isIn 25 = .ok (.getfield 380, 3) := dk_180 1 124 (dk_at dksX1_isIn_1 3 rfl rfl)
theorem dX1_isIn_28 : decode cX1_isIn 28 = .ok (.istore_n 3, 1) := dk_62 (dk_at dksX1_isIn_1 6 rfl rfl)
theorem dX1_isIn_29 : decode cX1_isIn 29 = .ok (.goto (-27), 3) := dk_167 255 229 (dk_at dksX1_isIn_1 7 rfl rfl)
theorem dX1_isIn_32 : decode cX1_isIn 32 = .ok (.iload_n 3, 1) := dk_29 (dk_at dksX1_isIn_1 10 rfl rfl)
theorem dX1_isIn_33 : decode cX1_isIn 33 = .ok (.iload_n 2, 1) := dk_28 (dk_at dksX1_isIn_1 11 rfl rfl)
theorem dX1_isIn_34 : decode cX1_isIn 34 = .ok (.if_icmp .ne 7, 3) := dk_160 0 7 (dk_at dksX1_isIn_1 12 rfl rfl)
theorem dX1_isIn_37 : decode cX1_isIn 37 = .ok (.iconst 1, 1) := dk_4 (dk_at dksX1_isIn_1 15 rfl rfl)
theorem dX1_isIn_38 : decode cX1_isIn 38 = .ok (.goto 4, 3) := dk_167 0 4 (dk_at dksX1_isIn_1 16 rfl rfl)
theorem dX1_isIn_41 : decode cX1_isIn 41 = .ok (.iconst 0, 1) := dk_3 (dk_at dksX1_isIn_1 19 rfl rfl)
theorem dX1_isIn_42 : decode cX1_isIn 42 = .ok (.ireturn, 1) := dk_172 (dk_at dksX1_isIn_1 20 rfl rfl)
abbrev cX1_give : ByteArray := prog_1_method_62_code
def yX1_give : MethodName := ⟨RX1, "give", "(II)I"⟩
def dkwX1_give_4 : List UInt8 := [185, 0, 109, 2, 0, 192, 0, 87, 180, 1, 124, 54, 5, 167, 255, 183, 21, 4, 172]
abbrev dktX1_give_4 : List UInt8 := dkwX1_give_4 ++ []
def dkwX1_give_3 : List UInt8 := [21, 5, 182, 1, 150, 185, 1, 14, 2, 0, 87, 132, 4, 1, 167, 255, 211, 42, 180, 0, 41, 21, 5]
abbrev dktX1_give_3 : List UInt8 := dkwX1_give_3 ++ dktX1_give_4
def dkwX1_give_2 : List UInt8 := [180, 0, 41, 21, 5, 185, 0, 109, 2, 0, 192, 0, 87, 180, 1, 149, 164, 0, 25, 42, 180, 0, 44, 42]
abbrev dktX1_give_2 : List UInt8 := dkwX1_give_2 ++ dktX1_give_3
def dkwX1_give_1 : List UInt8 := [3, 54, 4, 45, 180, 1, 125, 54, 5, 21, 5, 2, 159, 0, 73, 42, 21, 5, 182, 1, 146, 42]
abbrev dktX1_give_1 : List UInt8 := dkwX1_give_1 ++ dktX1_give_2
def dkwX1_give_0 : List UInt8 := [42, 27, 182, 1, 142, 78, 28, 4, 17, 39, 15, 184, 0, 125, 45, 89, 180, 1, 130, 28, 96, 181, 1, 130]
abbrev dktX1_give_0 : List UInt8 := dkwX1_give_0 ++ dktX1_give_1
theorem dksX1_give_0 : cX1_give.data.toList.drop 0 = dktX1_give_0 := by decide +kernel
theorem dksX1_give_1 : cX1_give.data.toList.drop 24 = dktX1_give_1 := dk_seg dksX1_give_0 24 rfl rfl
theorem dksX1_give_2 : cX1_give.data.toList.drop 46 = dktX1_give_2 := dk_seg dksX1_give_1 22 rfl rfl
theorem dksX1_give_3 : cX1_give.data.toList.drop 70 = dktX1_give_3 := dk_seg dksX1_give_2 24 rfl rfl
theorem dksX1_give_4 : cX1_give.data.toList.drop 93 = dktX1_give_4 := dk_seg dksX1_give_3 23 rfl rfl
theorem dX1_give_0 : decode cX1_give 0 = .ok (.aload_n 0, 1) := dk_42 (dk_at dksX1_give_0 0 rfl rfl)
theorem dX1_give_1 : decode cX1_give 1 = .ok (.iload_n 1, 1) := dk_27 (dk_at dksX1_give_0 1 rfl rfl)
theorem dX1_give_2 : decode cX1_give 2 = .ok (.invokevirtual 398, 3) := dk_182 1 142 (dk_at dksX1_give_0 2 rfl rfl)
theorem dX1_give_5 : decode cX1_give 5 = .ok (.astore_n 3, 1) := dk_78 (dk_at dksX1_give_0 5 rfl rfl)
theorem dX1_give_6 : decode cX1_give 6 = .ok (.iload_n 2, 1) := dk_28 (dk_at dksX1_give_0 6 rfl rfl)
theorem dX1_give_7 : decode cX1_give 7 = .ok (.iconst 1, 1) := dk_4 (dk_at dksX1_give_0 7 rfl rfl)
theorem dX1_give_8 : decode cX1_give 8 = .ok (.sipush 9999, 3) := dk_17 39 15 (dk_at dksX1_give_0 8 rfl rfl)
theorem dX1_give_11 : decode cX1_give 11 = .ok (.invokestatic 125, 3) := dk_184 0 125 (dk_at dksX1_give_0 11 rfl rfl)
theorem dX1_give_14 : decode cX1_give 14 = .ok (.aload_n 3, 1) := dk_45 (dk_at dksX1_give_0 14 rfl rfl)
theorem dX1_give_15 : decode cX1_give 15 = .ok (.dup, 1) := dk_89 (dk_at dksX1_give_0 15 rfl rfl)
theorem dX1_give_16 : decode cX1_give 16 = .ok (.getfield 386, 3) := dk_180 1 130 (dk_at dksX1_give_0 16 rfl rfl)
theorem dX1_give_19 : decode cX1_give 19 = .ok (.iload_n 2, 1) := dk_28 (dk_at dksX1_give_0 19 rfl rfl)
theorem dX1_give_20 : decode cX1_give 20 = .ok (.iadd, 1) := dk_96 (dk_at dksX1_give_0 20 rfl rfl)
theorem dX1_give_21 : decode cX1_give 21 = .ok (.putfield 386, 3) := dk_181 1 130 (dk_at dksX1_give_0 21 rfl rfl)
theorem dX1_give_24 : decode cX1_give 24 = .ok (.iconst 0, 1) := dk_3 (dk_at dksX1_give_1 0 rfl rfl)
theorem dX1_give_25 : decode cX1_give 25 = .ok (.istore 4, 2) := dk_54 4 (dk_at dksX1_give_1 1 rfl rfl)
theorem dX1_give_27 : decode cX1_give 27 = .ok (.aload_n 3, 1) := dk_45 (dk_at dksX1_give_1 3 rfl rfl)
theorem dX1_give_28 : decode cX1_give 28 = .ok (.getfield 381, 3) := dk_180 1 125 (dk_at dksX1_give_1 4 rfl rfl)
theorem dX1_give_31 : decode cX1_give 31 = .ok (.istore 5, 2) := dk_54 5 (dk_at dksX1_give_1 7 rfl rfl)
theorem dX1_give_33 : decode cX1_give 33 = .ok (.iload 5, 2) := dk_21 5 (dk_at dksX1_give_1 9 rfl rfl)
theorem dX1_give_35 : decode cX1_give 35 = .ok (.iconst (-1), 1) := dk_2 (dk_at dksX1_give_1 11 rfl rfl)
theorem dX1_give_36 : decode cX1_give 36 = .ok (.if_icmp .eq 73, 3) := dk_159 0 73 (dk_at dksX1_give_1 12 rfl rfl)
theorem dX1_give_39 : decode cX1_give 39 = .ok (.aload_n 0, 1) := dk_42 (dk_at dksX1_give_1 15 rfl rfl)
theorem dX1_give_40 : decode cX1_give 40 = .ok (.iload 5, 2) := dk_21 5 (dk_at dksX1_give_1 16 rfl rfl)
theorem dX1_give_42 : decode cX1_give 42 = .ok (.invokevirtual 402, 3) := dk_182 1 146 (dk_at dksX1_give_1 18 rfl rfl)
theorem dX1_give_45 : decode cX1_give 45 = .ok (.aload_n 0, 1) := dk_42 (dk_at dksX1_give_1 21 rfl rfl)
theorem dX1_give_46 : decode cX1_give 46 = .ok (.getfield 41, 3) := dk_180 0 41 (dk_at dksX1_give_2 0 rfl rfl)
theorem dX1_give_49 : decode cX1_give 49 = .ok (.iload 5, 2) := dk_21 5 (dk_at dksX1_give_2 3 rfl rfl)
theorem dX1_give_51 : decode cX1_give 51 = .ok (.invokeinterface 109 2, 5) := by decide +kernel
theorem dX1_give_56 : decode cX1_give 56 = .ok (.checkcast 87, 3) := dk_192 0 87 (dk_at dksX1_give_2 10 rfl rfl)
theorem dX1_give_59 : decode cX1_give 59 = .ok (.getfield 405, 3) := dk_180 1 149 (dk_at dksX1_give_2 13 rfl rfl)
theorem dX1_give_62 : decode cX1_give 62 = .ok (.if_icmp .le 25, 3) := dk_164 0 25 (dk_at dksX1_give_2 16 rfl rfl)
theorem dX1_give_65 : decode cX1_give 65 = .ok (.aload_n 0, 1) := dk_42 (dk_at dksX1_give_2 19 rfl rfl)
theorem dX1_give_66 : decode cX1_give 66 = .ok (.getfield 44, 3) := dk_180 0 44 (dk_at dksX1_give_2 20 rfl rfl)
theorem dX1_give_69 : decode cX1_give 69 = .ok (.aload_n 0, 1) := dk_42 (dk_at dksX1_give_2 23 rfl rfl)
theorem dX1_give_70 : decode cX1_give 70 = .ok (.iload 5, 2) := dk_21 5 (dk_at dksX1_give_3 0 rfl rfl)
theorem dX1_give_72 : decode cX1_give 72 = .ok (.invokevirtual 406, 3) := dk_182 1 150 (dk_at dksX1_give_3 2 rfl rfl)
theorem dX1_give_75 : decode cX1_give 75 = .ok (.invokeinterface 270 2, 5) := by decide +kernel
theorem dX1_give_80 : decode cX1_give 80 = .ok (.pop, 1) := dk_87 (dk_at dksX1_give_3 10 rfl rfl)
theorem dX1_give_81 : decode cX1_give 81 = .ok (.iinc 4 1, 3) := dk_132 4 1 (dk_at dksX1_give_3 11 rfl rfl)
theorem dX1_give_84 : decode cX1_give 84 = .ok (.goto (-45), 3) := dk_167 255 211 (dk_at dksX1_give_3 14 rfl rfl)
theorem dX1_give_87 : decode cX1_give 87 = .ok (.aload_n 0, 1) := dk_42 (dk_at dksX1_give_3 17 rfl rfl)
theorem dX1_give_88 : decode cX1_give 88 = .ok (.getfield 41, 3) := dk_180 0 41 (dk_at dksX1_give_3 18 rfl rfl)
theorem dX1_give_91 : decode cX1_give 91 = .ok (.iload 5, 2) := dk_21 5 (dk_at dksX1_give_3 21 rfl rfl)
theorem dX1_give_93 : decode cX1_give 93 = .ok (.invokeinterface 109 2, 5) := by decide +kernel
theorem dX1_give_98 : decode cX1_give 98 = .ok (.checkcast 87, 3) := dk_192 0 87 (dk_at dksX1_give_4 5 rfl rfl)
theorem dX1_give_101 : decode cX1_give 101 = .ok (.getfield 380, 3) := dk_180 1 124 (dk_at dksX1_give_4 8 rfl rfl)
theorem dX1_give_104 : decode cX1_give 104 = .ok (.istore 5, 2) := dk_54 5 (dk_at dksX1_give_4 11 rfl rfl)
theorem dX1_give_106 : decode cX1_give 106 = .ok (.goto (-73), 3) := dk_167 255 183 (dk_at dksX1_give_4 13 rfl rfl)
theorem dX1_give_109 : decode cX1_give 109 = .ok (.iload 4, 2) := dk_21 4 (dk_at dksX1_give_4 16 rfl rfl)
theorem dX1_give_111 : decode cX1_give 111 = .ok (.ireturn, 1) := dk_172 (dk_at dksX1_give_4 18 rfl rfl)
abbrev cX1_process : ByteArray := prog_1_method_10_code
def yX1_process : MethodName := ⟨RX1, "process", "(I)LCrateDeck$Process;"⟩
def dkwX1_process_2 : List UInt8 := [185, 0, 109, 2, 0, 192, 0, 119, 176, 132, 2, 1, 167, 255, 206, 187, 0, 102, 89, 183, 0, 104, 191]
abbrev dktX1_process_2 : List UInt8 := dkwX1_process_2 ++ []
def dkwX1_process_1 : List UInt8 := [185, 0, 109, 2, 0, 192, 0, 119, 180, 0, 121, 27, 160, 0, 17, 42, 180, 0, 44, 28]
abbrev dktX1_process_1 : List UInt8 := dkwX1_process_1 ++ dktX1_process_2
def dkwX1_process_0 : List UInt8 := [3, 61, 28, 42, 180, 0, 44, 185, 0, 105, 1, 0, 162, 0, 43, 42, 180, 0, 44, 28]
abbrev dktX1_process_0 : List UInt8 := dkwX1_process_0 ++ dktX1_process_1
theorem dksX1_process_0 : cX1_process.data.toList.drop 0 = dktX1_process_0 := by decide +kernel
theorem dksX1_process_1 : cX1_process.data.toList.drop 20 = dktX1_process_1 := dk_seg dksX1_process_0 20 rfl rfl
theorem dksX1_process_2 : cX1_process.data.toList.drop 40 = dktX1_process_2 := dk_seg dksX1_process_1 20 rfl rfl
theorem dX1_process_0 : decode cX1_process 0 = .ok (.iconst 0, 1) := dk_3 (dk_at dksX1_process_0 0 rfl rfl)
theorem dX1_process_1 : decode cX1_process 1 = .ok (.istore_n 2, 1) := dk_61 (dk_at dksX1_process_0 1 rfl rfl)
theorem dX1_process_2 : decode cX1_process 2 = .ok (.iload_n 2, 1) := dk_28 (dk_at dksX1_process_0 2 rfl rfl)
theorem dX1_process_3 : decode cX1_process 3 = .ok (.aload_n 0, 1) := dk_42 (dk_at dksX1_process_0 3 rfl rfl)
theorem dX1_process_4 : decode cX1_process 4 = .ok (.getfield 44, 3) := dk_180 0 44 (dk_at dksX1_process_0 4 rfl rfl)
theorem dX1_process_7 : decode cX1_process 7 = .ok (.invokeinterface 105 1, 5) := by decide +kernel
theorem dX1_process_12 : decode cX1_process 12 = .ok (.if_icmp .ge 43, 3) := dk_162 0 43 (dk_at dksX1_process_0 12 rfl rfl)
theorem dX1_process_15 : decode cX1_process 15 = .ok (.aload_n 0, 1) := dk_42 (dk_at dksX1_process_0 15 rfl rfl)
theorem dX1_process_16 : decode cX1_process 16 = .ok (.getfield 44, 3) := dk_180 0 44 (dk_at dksX1_process_0 16 rfl rfl)
theorem dX1_process_19 : decode cX1_process 19 = .ok (.iload_n 2, 1) := dk_28 (dk_at dksX1_process_0 19 rfl rfl)
theorem dX1_process_20 : decode cX1_process 20 = .ok (.invokeinterface 109 2, 5) := by decide +kernel
theorem dX1_process_25 : decode cX1_process 25 = .ok (.checkcast 119, 3) := dk_192 0 119 (dk_at dksX1_process_1 5 rfl rfl)
theorem dX1_process_28 : decode cX1_process 28 = .ok (.getfield 121, 3) := dk_180 0 121 (dk_at dksX1_process_1 8 rfl rfl)
theorem dX1_process_31 : decode cX1_process 31 = .ok (.iload_n 1, 1) := dk_27 (dk_at dksX1_process_1 11 rfl rfl)
theorem dX1_process_32 : decode cX1_process 32 = .ok (.if_icmp .ne 17, 3) := dk_160 0 17 (dk_at dksX1_process_1 12 rfl rfl)
theorem dX1_process_35 : decode cX1_process 35 = .ok (.aload_n 0, 1) := dk_42 (dk_at dksX1_process_1 15 rfl rfl)
theorem dX1_process_36 : decode cX1_process 36 = .ok (.getfield 44, 3) := dk_180 0 44 (dk_at dksX1_process_1 16 rfl rfl)
theorem dX1_process_39 : decode cX1_process 39 = .ok (.iload_n 2, 1) := dk_28 (dk_at dksX1_process_1 19 rfl rfl)
theorem dX1_process_40 : decode cX1_process 40 = .ok (.invokeinterface 109 2, 5) := by decide +kernel
theorem dX1_process_45 : decode cX1_process 45 = .ok (.checkcast 119, 3) := dk_192 0 119 (dk_at dksX1_process_2 5 rfl rfl)
theorem dX1_process_48 : decode cX1_process 48 = .ok (.areturn, 1) := dk_176 (dk_at dksX1_process_2 8 rfl rfl)
theorem dX1_process_49 : decode cX1_process 49 = .ok (.iinc 2 1, 3) := dk_132 2 1 (dk_at dksX1_process_2 9 rfl rfl)
theorem dX1_process_52 : decode cX1_process 52 = .ok (.goto (-50), 3) := dk_167 255 206 (dk_at dksX1_process_2 12 rfl rfl)
theorem dX1_process_55 : decode cX1_process 55 = .ok (.new 102, 3) := dk_187 0 102 (dk_at dksX1_process_2 15 rfl rfl)
theorem dX1_process_58 : decode cX1_process 58 = .ok (.dup, 1) := dk_89 (dk_at dksX1_process_2 18 rfl rfl)
theorem dX1_process_59 : decode cX1_process 59 = .ok (.invokespecial 104, 3) := dk_183 0 104 (dk_at dksX1_process_2 19 rfl rfl)
theorem dX1_process_62 : decode cX1_process 62 = .ok (.athrow, 1) := dk_191 (dk_at dksX1_process_2 22 rfl rfl)
abbrev cX1_memoryIn : ByteArray := prog_1_method_59_code
def yX1_memoryIn : MethodName := ⟨RX1, "memoryIn", "(I)I"⟩
def dkwX1_memoryIn_3 : List UInt8 := [172]
abbrev dktX1_memoryIn_3 : List UInt8 := dkwX1_memoryIn_3 ++ []
def dkwX1_memoryIn_2 : List UInt8 := [185, 0, 109, 2, 0, 192, 0, 119, 180, 1, 130, 167, 0, 4, 3, 96, 61, 132, 3, 1, 167, 255, 193, 28]
abbrev dktX1_memoryIn_2 : List UInt8 := dkwX1_memoryIn_2 ++ dktX1_memoryIn_3
def dkwX1_memoryIn_1 : List UInt8 := [185, 0, 109, 2, 0, 192, 0, 119, 180, 1, 125, 27, 182, 1, 127, 153, 0, 22, 42, 180, 0, 44, 29]
abbrev dktX1_memoryIn_1 : List UInt8 := dkwX1_memoryIn_1 ++ dktX1_memoryIn_2
def dkwX1_memoryIn_0 : List UInt8 := [3, 61, 3, 62, 29, 42, 180, 0, 44, 185, 0, 105, 1, 0, 162, 0, 56, 28, 42, 42, 180, 0, 44, 29]
abbrev dktX1_memoryIn_0 : List UInt8 := dkwX1_memoryIn_0 ++ dktX1_memoryIn_1
theorem dksX1_memoryIn_0 : cX1_memoryIn.data.toList.drop 0 = dktX1_memoryIn_0 := by decide +kernel
theorem dksX1_memoryIn_1 : cX1_memoryIn.data.toList.drop 24 = dktX1_memoryIn_1 := dk_seg dksX1_memoryIn_0 24 rfl rfl
theorem dksX1_memoryIn_2 : cX1_memoryIn.data.toList.drop 47 = dktX1_memoryIn_2 := dk_seg dksX1_memoryIn_1 23 rfl rfl
theorem dksX1_memoryIn_3 : cX1_memoryIn.data.toList.drop 71 = dktX1_memoryIn_3 := dk_seg dksX1_memoryIn_2 24 rfl rfl
theorem dX1_memoryIn_0 : decode cX1_memoryIn 0 = .ok (.iconst 0, 1) := dk_3 (dk_at dksX1_memoryIn_0 0 rfl rfl)
theorem dX1_memoryIn_1 : decode cX1_memoryIn 1 = .ok (.istore_n 2, 1) := dk_61 (dk_at dksX1_memoryIn_0 1 rfl rfl)
theorem dX1_memoryIn_2 : decode cX1_memoryIn 2 = .ok (.iconst 0, 1) := dk_3 (dk_at dksX1_memoryIn_0 2 rfl rfl)
theorem dX1_memoryIn_3 : decode cX1_memoryIn 3 = .ok (.istore_n 3, 1) := dk_62 (dk_at dksX1_memoryIn_0 3 rfl rfl)
theorem dX1_memoryIn_4 : decode cX1_memoryIn 4 = .ok (.iload_n 3, 1) := dk_29 (dk_at dksX1_memoryIn_0 4 rfl rfl)
theorem dX1_memoryIn_5 : decode cX1_memoryIn 5 = .ok (.aload_n 0, 1) := dk_42 (dk_at dksX1_memoryIn_0 5 rfl rfl)
theorem dX1_memoryIn_6 : decode cX1_memoryIn 6 = .ok (.getfield 44, 3) := dk_180 0 44 (dk_at dksX1_memoryIn_0 6 rfl rfl)
theorem dX1_memoryIn_9 : decode cX1_memoryIn 9 = .ok (.invokeinterface 105 1, 5) := by decide +kernel
theorem dX1_memoryIn_14 : decode cX1_memoryIn 14 = .ok (.if_icmp .ge 56, 3) := dk_162 0 56 (dk_at dksX1_memoryIn_0 14 rfl rfl)
theorem dX1_memoryIn_17 : decode cX1_memoryIn 17 = .ok (.iload_n 2, 1) := dk_28 (dk_at dksX1_memoryIn_0 17 rfl rfl)
theorem dX1_memoryIn_18 : decode cX1_memoryIn 18 = .ok (.aload_n 0, 1) := dk_42 (dk_at dksX1_memoryIn_0 18 rfl rfl)
theorem dX1_memoryIn_19 : decode cX1_memoryIn 19 = .ok (.aload_n 0, 1) := dk_42 (dk_at dksX1_memoryIn_0 19 rfl rfl)
theorem dX1_memoryIn_20 : decode cX1_memoryIn 20 = .ok (.getfield 44, 3) := dk_180 0 44 (dk_at dksX1_memoryIn_0 20 rfl rfl)
theorem dX1_memoryIn_23 : decode cX1_memoryIn 23 = .ok (.iload_n 3, 1) := dk_29 (dk_at dksX1_memoryIn_0 23 rfl rfl)
theorem dX1_memoryIn_24 : decode cX1_memoryIn 24 = .ok (.invokeinterface 109 2, 5) := by decide +kernel
theorem dX1_memoryIn_29 : decode cX1_memoryIn 29 = .ok (.checkcast 119, 3) := dk_192 0 119 (dk_at dksX1_memoryIn_1 5 rfl rfl)
theorem dX1_memoryIn_32 : decode cX1_memoryIn 32 = .ok (.getfield 381, 3) := dk_180 1 125 (dk_at dksX1_memoryIn_1 8 rfl rfl)
theorem dX1_memoryIn_35 : decode cX1_memoryIn 35 = .ok (.iload_n 1, 1) := dk_27 (dk_at dksX1_memoryIn_1 11 rfl rfl)
theorem dX1_memoryIn_36 : decode cX1_memoryIn 36 = .ok (.invokevirtual 383, 3) := dk_182 1 127 (dk_at dksX1_memoryIn_1 12 rfl rfl)
theorem dX1_memoryIn_39 : decode cX1_memoryIn 39 = .ok (.ifCond .eq 22, 3) := dk_153 0 22 (dk_at dksX1_memoryIn_1 15 rfl rfl)
theorem dX1_memoryIn_42 : decode cX1_memoryIn 42 = .ok (.aload_n 0, 1) := dk_42 (dk_at dksX1_memoryIn_1 18 rfl rfl)
theorem dX1_memoryIn_43 : decode cX1_memoryIn 43 = .ok (.getfield 44, 3) := dk_180 0 44 (dk_at dksX1_memoryIn_1 19 rfl rfl)
theorem dX1_memoryIn_46 : decode cX1_memoryIn 46 = .ok (.iload_n 3, 1) := dk_29 (dk_at dksX1_memoryIn_1 22 rfl rfl)
theorem dX1_memoryIn_47 : decode cX1_memoryIn 47 = .ok (.invokeinterface 109 2, 5) := by decide +kernel
theorem dX1_memoryIn_52 : decode cX1_memoryIn 52 = .ok (.checkcast 119, 3) := dk_192 0 119 (dk_at dksX1_memoryIn_2 5 rfl rfl)
theorem dX1_memoryIn_55 : decode cX1_memoryIn 55 = .ok (.getfield 386, 3) := dk_180 1 130 (dk_at dksX1_memoryIn_2 8 rfl rfl)
theorem dX1_memoryIn_58 : decode cX1_memoryIn 58 = .ok (.goto 4, 3) := dk_167 0 4 (dk_at dksX1_memoryIn_2 11 rfl rfl)
theorem dX1_memoryIn_61 : decode cX1_memoryIn 61 = .ok (.iconst 0, 1) := dk_3 (dk_at dksX1_memoryIn_2 14 rfl rfl)
theorem dX1_memoryIn_62 : decode cX1_memoryIn 62 = .ok (.iadd, 1) := dk_96 (dk_at dksX1_memoryIn_2 15 rfl rfl)
theorem dX1_memoryIn_63 : decode cX1_memoryIn 63 = .ok (.istore_n 2, 1) := dk_61 (dk_at dksX1_memoryIn_2 16 rfl rfl)
theorem dX1_memoryIn_64 : decode cX1_memoryIn 64 = .ok (.iinc 3 1, 3) := dk_132 3 1 (dk_at dksX1_memoryIn_2 17 rfl rfl)
theorem dX1_memoryIn_67 : decode cX1_memoryIn 67 = .ok (.goto (-63), 3) := dk_167 255 193 (dk_at dksX1_memoryIn_2 20 rfl rfl)
theorem dX1_memoryIn_70 : decode cX1_memoryIn 70 = .ok (.iload_n 2, 1) := dk_28 (dk_at dksX1_memoryIn_2 23 rfl rfl)
theorem dX1_memoryIn_71 : decode cX1_memoryIn 71 = .ok (.ireturn, 1) := dk_172 (dk_at dksX1_memoryIn_3 0 rfl rfl)
abbrev cX1_greatest : ByteArray := prog_1_method_61_code
def yX1_greatest : MethodName := ⟨RX1, "greatest", "(I)LCrateDeck$Process;"⟩
def dkwX1_greatest_3 : List UInt8 := [132, 3, 1, 167, 255, 189, 44, 176]
abbrev dktX1_greatest_3 : List UInt8 := dkwX1_greatest_3 ++ []
def dkwX1_greatest_2 : List UInt8 := [198, 0, 15, 25, 4, 180, 1, 130, 44, 180, 1, 130, 164, 0, 8, 25, 4, 167, 0, 4, 44, 77]
abbrev dktX1_greatest_2 : List UInt8 := dkwX1_greatest_2 ++ dktX1_greatest_3
def dkwX1_greatest_1 : List UInt8 := [185, 0, 109, 2, 0, 192, 0, 119, 58, 4, 42, 25, 4, 180, 1, 125, 27, 182, 1, 127, 153, 0, 24, 44]
abbrev dktX1_greatest_1 : List UInt8 := dkwX1_greatest_1 ++ dktX1_greatest_2
def dkwX1_greatest_0 : List UInt8 := [1, 77, 3, 62, 29, 42, 180, 0, 44, 185, 0, 105, 1, 0, 162, 0, 60, 42, 180, 0, 44, 29]
abbrev dktX1_greatest_0 : List UInt8 := dkwX1_greatest_0 ++ dktX1_greatest_1
theorem dksX1_greatest_0 : cX1_greatest.data.toList.drop 0 = dktX1_greatest_0 := by decide +kernel
theorem dksX1_greatest_1 : cX1_greatest.data.toList.drop 22 = dktX1_greatest_1 := dk_seg dksX1_greatest_0 22 rfl rfl
theorem dksX1_greatest_2 : cX1_greatest.data.toList.drop 46 = dktX1_greatest_2 := dk_seg dksX1_greatest_1 24 rfl rfl
theorem dksX1_greatest_3 : cX1_greatest.data.toList.drop 68 = dktX1_greatest_3 := dk_seg dksX1_greatest_2 22 rfl rfl
theorem dX1_greatest_0 : decode cX1_greatest 0 = .ok (.aconst_null, 1) := dk_1 (dk_at dksX1_greatest_0 0 rfl rfl)
theorem dX1_greatest_1 : decode cX1_greatest 1 = .ok (.astore_n 2, 1) := dk_77 (dk_at dksX1_greatest_0 1 rfl rfl)
theorem dX1_greatest_2 : decode cX1_greatest 2 = .ok (.iconst 0, 1) := dk_3 (dk_at dksX1_greatest_0 2 rfl rfl)
theorem dX1_greatest_3 : decode cX1_greatest 3 = .ok (.istore_n 3, 1) := dk_62 (dk_at dksX1_greatest_0 3 rfl rfl)
theorem dX1_greatest_4 : decode cX1_greatest 4 = .ok (.iload_n 3, 1) := dk_29 (dk_at dksX1_greatest_0 4 rfl rfl)
theorem dX1_greatest_5 : decode cX1_greatest 5 = .ok (.aload_n 0, 1) := dk_42 (dk_at dksX1_greatest_0 5 rfl rfl)
theorem dX1_greatest_6 : decode cX1_greatest 6 = .ok (.getfield 44, 3) := dk_180 0 44 (dk_at dksX1_greatest_0 6 rfl rfl)
theorem dX1_greatest_9 : decode cX1_greatest 9 = .ok (.invokeinterface 105 1, 5) := by decide +kernel
theorem dX1_greatest_14 : decode cX1_greatest 14 = .ok (.if_icmp .ge 60, 3) := dk_162 0 60 (dk_at dksX1_greatest_0 14 rfl rfl)
theorem dX1_greatest_17 : decode cX1_greatest 17 = .ok (.aload_n 0, 1) := dk_42 (dk_at dksX1_greatest_0 17 rfl rfl)
theorem dX1_greatest_18 : decode cX1_greatest 18 = .ok (.getfield 44, 3) := dk_180 0 44 (dk_at dksX1_greatest_0 18 rfl rfl)
theorem dX1_greatest_21 : decode cX1_greatest 21 = .ok (.iload_n 3, 1) := dk_29 (dk_at dksX1_greatest_0 21 rfl rfl)
theorem dX1_greatest_22 : decode cX1_greatest 22 = .ok (.invokeinterface 109 2, 5) := by decide +kernel
theorem dX1_greatest_27 : decode cX1_greatest 27 = .ok (.checkcast 119, 3) := dk_192 0 119 (dk_at dksX1_greatest_1 5 rfl rfl)
theorem dX1_greatest_30 : decode cX1_greatest 30 = .ok (.astore 4, 2) := dk_58 4 (dk_at dksX1_greatest_1 8 rfl rfl)
theorem dX1_greatest_32 : decode cX1_greatest 32 = .ok (.aload_n 0, 1) := dk_42 (dk_at dksX1_greatest_1 10 rfl rfl)
theorem dX1_greatest_33 : decode cX1_greatest 33 = .ok (.aload 4, 2) := dk_25 4 (dk_at dksX1_greatest_1 11 rfl rfl)
theorem dX1_greatest_35 : decode cX1_greatest 35 = .ok (.getfield 381, 3) := dk_180 1 125 (dk_at dksX1_greatest_1 13 rfl rfl)
theorem dX1_greatest_38 : decode cX1_greatest 38 = .ok (.iload_n 1, 1) := dk_27 (dk_at dksX1_greatest_1 16 rfl rfl)
theorem dX1_greatest_39 : decode cX1_greatest 39 = .ok (.invokevirtual 383, 3) := dk_182 1 127 (dk_at dksX1_greatest_1 17 rfl rfl)
theorem dX1_greatest_42 : decode cX1_greatest 42 = .ok (.ifCond .eq 24, 3) := dk_153 0 24 (dk_at dksX1_greatest_1 20 rfl rfl)
theorem dX1_greatest_45 : decode cX1_greatest 45 = .ok (.aload_n 2, 1) := dk_44 (dk_at dksX1_greatest_1 23 rfl rfl)
theorem dX1_greatest_46 : decode cX1_greatest 46 = .ok (.ifnull 15, 3) := dk_198 0 15 (dk_at dksX1_greatest_2 0 rfl rfl)
theorem dX1_greatest_49 : decode cX1_greatest 49 = .ok (.aload 4, 2) := dk_25 4 (dk_at dksX1_greatest_2 3 rfl rfl)
theorem dX1_greatest_51 : decode cX1_greatest 51 = .ok (.getfield 386, 3) := dk_180 1 130 (dk_at dksX1_greatest_2 5 rfl rfl)
theorem dX1_greatest_54 : decode cX1_greatest 54 = .ok (.aload_n 2, 1) := dk_44 (dk_at dksX1_greatest_2 8 rfl rfl)
theorem dX1_greatest_55 : decode cX1_greatest 55 = .ok (.getfield 386, 3) := dk_180 1 130 (dk_at dksX1_greatest_2 9 rfl rfl)
theorem dX1_greatest_58 : decode cX1_greatest 58 = .ok (.if_icmp .le 8, 3) := dk_164 0 8 (dk_at dksX1_greatest_2 12 rfl rfl)
theorem dX1_greatest_61 : decode cX1_greatest 61 = .ok (.aload 4, 2) := dk_25 4 (dk_at dksX1_greatest_2 15 rfl rfl)
theorem dX1_greatest_63 : decode cX1_greatest 63 = .ok (.goto 4, 3) := dk_167 0 4 (dk_at dksX1_greatest_2 17 rfl rfl)
theorem dX1_greatest_66 : decode cX1_greatest 66 = .ok (.aload_n 2, 1) := dk_44 (dk_at dksX1_greatest_2 20 rfl rfl)
theorem dX1_greatest_67 : decode cX1_greatest 67 = .ok (.astore_n 2, 1) := dk_77 (dk_at dksX1_greatest_2 21 rfl rfl)
theorem dX1_greatest_68 : decode cX1_greatest 68 = .ok (.iinc 3 1, 3) := dk_132 3 1 (dk_at dksX1_greatest_3 0 rfl rfl)
theorem dX1_greatest_71 : decode cX1_greatest 71 = .ok (.goto (-67), 3) := dk_167 255 189 (dk_at dksX1_greatest_3 3 rfl rfl)
theorem dX1_greatest_74 : decode cX1_greatest 74 = .ok (.aload_n 2, 1) := dk_44 (dk_at dksX1_greatest_3 6 rfl rfl)
theorem dX1_greatest_75 : decode cX1_greatest 75 = .ok (.areturn, 1) := dk_176 (dk_at dksX1_greatest_3 7 rfl rfl)
abbrev cX1_process_2 : ByteArray := prog_1_method_66_code
def yX1_process_2 : MethodName := ⟨RX1, "process", "(II)I"⟩
def dkwX1_process_2_4 : List UInt8 := [172]
abbrev dktX1_process_2_4 : List UInt8 := dkwX1_process_2_4 ++ []
def dkwX1_process_2_3 : List UInt8 := [180, 1, 125, 182, 1, 162, 42, 45, 180, 1, 125, 182, 1, 159, 108, 42, 45, 180, 1, 125, 182, 1, 153, 108]
abbrev dktX1_process_2_3 : List UInt8 := dkwX1_process_2_3 ++ dktX1_process_2_4
def dkwX1_process_2_2 : List UInt8 := [45, 180, 1, 17, 167, 0, 43, 45, 180, 1, 125, 167, 0, 36, 45, 180, 1, 130, 167, 0, 29, 42, 45]
abbrev dktX1_process_2_2 : List UInt8 := dkwX1_process_2_2 ++ dktX1_process_2_3
def dkwX1_process_2_1 : List UInt8 := [170, 0, 0, 0, 0, 0, 48, 0, 0, 0, 0, 0, 0, 0, 2, 0, 0, 0, 27, 0, 0, 0, 34, 0, 0, 0, 41]
abbrev dktX1_process_2_1 : List UInt8 := dkwX1_process_2_1 ++ dktX1_process_2_2
def dkwX1_process_2_0 : List UInt8 := [42, 27, 182, 1, 142, 78, 28, 3, 6, 184, 0, 125, 28]
abbrev dktX1_process_2_0 : List UInt8 := dkwX1_process_2_0 ++ dktX1_process_2_1
theorem dksX1_process_2_0 : cX1_process_2.data.toList.drop 0 = dktX1_process_2_0 := by decide +kernel
theorem dksX1_process_2_1 : cX1_process_2.data.toList.drop 13 = dktX1_process_2_1 := dk_seg dksX1_process_2_0 13 rfl rfl
theorem dksX1_process_2_2 : cX1_process_2.data.toList.drop 40 = dktX1_process_2_2 := dk_seg dksX1_process_2_1 27 rfl rfl
theorem dksX1_process_2_3 : cX1_process_2.data.toList.drop 63 = dktX1_process_2_3 := dk_seg dksX1_process_2_2 23 rfl rfl
theorem dksX1_process_2_4 : cX1_process_2.data.toList.drop 87 = dktX1_process_2_4 := dk_seg dksX1_process_2_3 24 rfl rfl
theorem dX1_process_2_0 : decode cX1_process_2 0 = .ok (.aload_n 0, 1) := dk_42 (dk_at dksX1_process_2_0 0 rfl rfl)
theorem dX1_process_2_1 : decode cX1_process_2 1 = .ok (.iload_n 1, 1) := dk_27 (dk_at dksX1_process_2_0 1 rfl rfl)
theorem dX1_process_2_2 : decode cX1_process_2 2 = .ok (.invokevirtual 398, 3) := dk_182 1 142 (dk_at dksX1_process_2_0 2 rfl rfl)
theorem dX1_process_2_5 : decode cX1_process_2 5 = .ok (.astore_n 3, 1) := dk_78 (dk_at dksX1_process_2_0 5 rfl rfl)
theorem dX1_process_2_6 : decode cX1_process_2 6 = .ok (.iload_n 2, 1) := dk_28 (dk_at dksX1_process_2_0 6 rfl rfl)
theorem dX1_process_2_7 : decode cX1_process_2 7 = .ok (.iconst 0, 1) := dk_3 (dk_at dksX1_process_2_0 7 rfl rfl)
theorem dX1_process_2_8 : decode cX1_process_2 8 = .ok (.iconst 3, 1) := dk_6 (dk_at dksX1_process_2_0 8 rfl rfl)
theorem dX1_process_2_9 : decode cX1_process_2 9 = .ok (.invokestatic 125, 3) := dk_184 0 125 (dk_at dksX1_process_2_0 9 rfl rfl)
theorem dX1_process_2_12 : decode cX1_process_2 12 = .ok (.iload_n 2, 1) := dk_28 (dk_at dksX1_process_2_0 12 rfl rfl)
theorem dX1_process_2_13 : decode cX1_process_2 13 = .ok (.tableswitch 48 0 2 #[27, 34, 41], 27) := by decide +kernel
theorem dX1_process_2_40 : decode cX1_process_2 40 = .ok (.aload_n 3, 1) := dk_45 (dk_at dksX1_process_2_2 0 rfl rfl)
theorem dX1_process_2_41 : decode cX1_process_2 41 = .ok (.getfield 273, 3) := dk_180 1 17 (dk_at dksX1_process_2_2 1 rfl rfl)
theorem dX1_process_2_44 : decode cX1_process_2 44 = .ok (.goto 43, 3) := dk_167 0 43 (dk_at dksX1_process_2_2 4 rfl rfl)
theorem dX1_process_2_47 : decode cX1_process_2 47 = .ok (.aload_n 3, 1) := dk_45 (dk_at dksX1_process_2_2 7 rfl rfl)
theorem dX1_process_2_48 : decode cX1_process_2 48 = .ok (.getfield 381, 3) := dk_180 1 125 (dk_at dksX1_process_2_2 8 rfl rfl)
theorem dX1_process_2_51 : decode cX1_process_2 51 = .ok (.goto 36, 3) := dk_167 0 36 (dk_at dksX1_process_2_2 11 rfl rfl)
theorem dX1_process_2_54 : decode cX1_process_2 54 = .ok (.aload_n 3, 1) := dk_45 (dk_at dksX1_process_2_2 14 rfl rfl)
theorem dX1_process_2_55 : decode cX1_process_2 55 = .ok (.getfield 386, 3) := dk_180 1 130 (dk_at dksX1_process_2_2 15 rfl rfl)
theorem dX1_process_2_58 : decode cX1_process_2 58 = .ok (.goto 29, 3) := dk_167 0 29 (dk_at dksX1_process_2_2 18 rfl rfl)
theorem dX1_process_2_61 : decode cX1_process_2 61 = .ok (.aload_n 0, 1) := dk_42 (dk_at dksX1_process_2_2 21 rfl rfl)
theorem dX1_process_2_62 : decode cX1_process_2 62 = .ok (.aload_n 3, 1) := dk_45 (dk_at dksX1_process_2_2 22 rfl rfl)
theorem dX1_process_2_63 : decode cX1_process_2 63 = .ok (.getfield 381, 3) := dk_180 1 125 (dk_at dksX1_process_2_3 0 rfl rfl)
theorem dX1_process_2_66 : decode cX1_process_2 66 = .ok (.invokevirtual 418, 3) := dk_182 1 162 (dk_at dksX1_process_2_3 3 rfl rfl)
theorem dX1_process_2_69 : decode cX1_process_2 69 = .ok (.aload_n 0, 1) := dk_42 (dk_at dksX1_process_2_3 6 rfl rfl)
theorem dX1_process_2_70 : decode cX1_process_2 70 = .ok (.aload_n 3, 1) := dk_45 (dk_at dksX1_process_2_3 7 rfl rfl)
theorem dX1_process_2_71 : decode cX1_process_2 71 = .ok (.getfield 381, 3) := dk_180 1 125 (dk_at dksX1_process_2_3 8 rfl rfl)
theorem dX1_process_2_74 : decode cX1_process_2 74 = .ok (.invokevirtual 415, 3) := dk_182 1 159 (dk_at dksX1_process_2_3 11 rfl rfl)
theorem dX1_process_2_77 : decode cX1_process_2 77 = .ok (.idiv, 1) := dk_108 (dk_at dksX1_process_2_3 14 rfl rfl)
theorem dX1_process_2_78 : decode cX1_process_2 78 = .ok (.aload_n 0, 1) := dk_42 (dk_at dksX1_process_2_3 15 rfl rfl)
theorem dX1_process_2_79 : decode cX1_process_2 79 = .ok (.aload_n 3, 1) := dk_45 (dk_at dksX1_process_2_3 16 rfl rfl)
theorem dX1_process_2_80 : decode cX1_process_2 80 = .ok (.getfield 381, 3) := dk_180 1 125 (dk_at dksX1_process_2_3 17 rfl rfl)
theorem dX1_process_2_83 : decode cX1_process_2 83 = .ok (.invokevirtual 409, 3) := dk_182 1 153 (dk_at dksX1_process_2_3 20 rfl rfl)
theorem dX1_process_2_86 : decode cX1_process_2 86 = .ok (.idiv, 1) := dk_108 (dk_at dksX1_process_2_3 23 rfl rfl)
theorem dX1_process_2_87 : decode cX1_process_2 87 = .ok (.ireturn, 1) := dk_172 (dk_at dksX1_process_2_4 0 rfl rfl)
abbrev cX1_timeOf : ByteArray := prog_1_method_65_code
def yX1_timeOf : MethodName := ⟨RX1, "timeOf", "(I)I"⟩
def dkwX1_timeOf_5 : List UInt8 := [180, 1, 124, 182, 1, 159, 108, 62, 132, 4, 255, 167, 255, 168, 29, 172]
abbrev dktX1_timeOf_5 : List UInt8 := dkwX1_timeOf_5 ++ []
def dkwX1_timeOf_4 : List UInt8 := [192, 0, 87, 180, 1, 156, 104, 42, 42, 180, 0, 41, 21, 5, 185, 0, 109, 2, 0, 192, 0, 87]
abbrev dktX1_timeOf_4 : List UInt8 := dkwX1_timeOf_4 ++ dktX1_timeOf_5
def dkwX1_timeOf_3 : List UInt8 := [180, 1, 124, 54, 5, 132, 6, 1, 167, 255, 227, 29, 42, 180, 0, 41, 21, 5, 185, 0, 109, 2, 0]
abbrev dktX1_timeOf_3 : List UInt8 := dkwX1_timeOf_3 ++ dktX1_timeOf_4
def dkwX1_timeOf_2 : List UInt8 := [54, 6, 21, 6, 21, 4, 162, 0, 28, 42, 180, 0, 41, 21, 5, 185, 0, 109, 2, 0, 192, 0, 87]
abbrev dktX1_timeOf_2 : List UInt8 := dkwX1_timeOf_2 ++ dktX1_timeOf_3
def dkwX1_timeOf_1 : List UInt8 := [180, 1, 124, 62, 167, 255, 232, 17, 39, 16, 62, 28, 54, 4, 21, 4, 158, 0, 89, 27, 54, 5, 4]
abbrev dktX1_timeOf_1 : List UInt8 := dkwX1_timeOf_1 ++ dktX1_timeOf_2
def dkwX1_timeOf_0 : List UInt8 := [3, 61, 27, 62, 29, 153, 0, 26, 132, 2, 1, 42, 180, 0, 41, 29, 185, 0, 109, 2, 0, 192, 0, 87]
abbrev dktX1_timeOf_0 : List UInt8 := dkwX1_timeOf_0 ++ dktX1_timeOf_1
theorem dksX1_timeOf_0 : cX1_timeOf.data.toList.drop 0 = dktX1_timeOf_0 := by decide +kernel
theorem dksX1_timeOf_1 : cX1_timeOf.data.toList.drop 24 = dktX1_timeOf_1 := dk_seg dksX1_timeOf_0 24 rfl rfl
theorem dksX1_timeOf_2 : cX1_timeOf.data.toList.drop 47 = dktX1_timeOf_2 := dk_seg dksX1_timeOf_1 23 rfl rfl
theorem dksX1_timeOf_3 : cX1_timeOf.data.toList.drop 70 = dktX1_timeOf_3 := dk_seg dksX1_timeOf_2 23 rfl rfl
theorem dksX1_timeOf_4 : cX1_timeOf.data.toList.drop 93 = dktX1_timeOf_4 := dk_seg dksX1_timeOf_3 23 rfl rfl
theorem dksX1_timeOf_5 : cX1_timeOf.data.toList.drop 115 = dktX1_timeOf_5 := dk_seg dksX1_timeOf_4 22 rfl rfl
theorem dX1_timeOf_0 : decode cX1_timeOf 0 = .ok (.iconst 0, 1) := dk_3 (dk_at dksX1_timeOf_0 0 rfl rfl)
theorem dX1_timeOf_1 : decode cX1_timeOf 1 = .ok (.istore_n 2, 1) := dk_61 (dk_at dksX1_timeOf_0 1 rfl rfl)
theorem dX1_timeOf_2 : decode cX1_timeOf 2 = .ok (.iload_n 1, 1) := dk_27 (dk_at dksX1_timeOf_0 2 rfl rfl)
theorem dX1_timeOf_3 : decode cX1_timeOf 3 = .ok (.istore_n 3, 1) := dk_62 (dk_at dksX1_timeOf_0 3 rfl rfl)
theorem dX1_timeOf_4 : decode cX1_timeOf 4 = .ok (.iload_n 3, 1) := dk_29 (dk_at dksX1_timeOf_0 4 rfl rfl)
theorem dX1_timeOf_5 : decode cX1_timeOf 5 = .ok (.ifCond .eq 26, 3) := dk_153 0 26 (dk_at dksX1_timeOf_0 5 rfl rfl)
theorem dX1_timeOf_8 : decode cX1_timeOf 8 = .ok (.iinc 2 1, 3) := dk_132 2 1 (dk_at dksX1_timeOf_0 8 rfl rfl)
theorem dX1_timeOf_11 : decode cX1_timeOf 11 = .ok (.aload_n 0, 1) := dk_42 (dk_at dksX1_timeOf_0 11 rfl rfl)
theorem dX1_timeOf_12 : decode cX1_timeOf 12 = .ok (.getfield 41, 3) := dk_180 0 41 (dk_at dksX1_timeOf_0 12 rfl rfl)
theorem dX1_timeOf_15 : decode cX1_timeOf 15 = .ok (.iload_n 3, 1) := dk_29 (dk_at dksX1_timeOf_0 15 rfl rfl)
theorem dX1_timeOf_16 : decode cX1_timeOf 16 = .ok (.invokeinterface 109 2, 5) := by decide +kernel
theorem dX1_timeOf_21 : decode cX1_timeOf 21 = .ok (.checkcast 87, 3) := dk_192 0 87 (dk_at dksX1_timeOf_0 21 rfl rfl)
theorem dX1_timeOf_24 : decode cX1_timeOf 24 = .ok (.getfield 380, 3) := dk_180 1 124 (dk_at dksX1_timeOf_1 0 rfl rfl)
theorem dX1_timeOf_27 : decode cX1_timeOf 27 = .ok (.istore_n 3, 1) := dk_62 (dk_at dksX1_timeOf_1 3 rfl rfl)
theorem dX1_timeOf_28 : decode cX1_timeOf 28 = .ok (.goto (-24), 3) := dk_167 255 232 (dk_at dksX1_timeOf_1 4 rfl rfl)
theorem dX1_timeOf_31 : decode cX1_timeOf 31 = .ok (.sipush 10000, 3) := dk_17 39 16 (dk_at dksX1_timeOf_1 7 rfl rfl)
theorem dX1_timeOf_34 : decode cX1_timeOf 34 = .ok (.istore_n 3, 1) := dk_62 (dk_at dksX1_timeOf_1 10 rfl rfl)
theorem dX1_timeOf_35 : decode cX1_timeOf 35 = .ok (.iload_n 2, 1) := dk_28 (dk_at dksX1_timeOf_1 11 rfl rfl)
theorem dX1_timeOf_36 : decode cX1_timeOf 36 = .ok (.istore 4, 2) := dk_54 4 (dk_at dksX1_timeOf_1 12 rfl rfl)
theorem dX1_timeOf_38 : decode cX1_timeOf 38 = .ok (.iload 4, 2) := dk_21 4 (dk_at dksX1_timeOf_1 14 rfl rfl)
theorem dX1_timeOf_40 : decode cX1_timeOf 40 = .ok (.ifCond .le 89, 3) := dk_158 0 89 (dk_at dksX1_timeOf_1 16 rfl rfl)
theorem dX1_timeOf_43 : decode cX1_timeOf 43 = .ok (.iload_n 1, 1) := dk_27 (dk_at dksX1_timeOf_1 19 rfl rfl)
theorem dX1_timeOf_44 : decode cX1_timeOf 44 = .ok (.istore 5, 2) := dk_54 5 (dk_at dksX1_timeOf_1 20 rfl rfl)
theorem dX1_timeOf_46 : decode cX1_timeOf 46 = .ok (.iconst 1, 1) := dk_4 (dk_at dksX1_timeOf_1 22 rfl rfl)
theorem dX1_timeOf_47 : decode cX1_timeOf 47 = .ok (.istore 6, 2) := dk_54 6 (dk_at dksX1_timeOf_2 0 rfl rfl)
theorem dX1_timeOf_49 : decode cX1_timeOf 49 = .ok (.iload 6, 2) := dk_21 6 (dk_at dksX1_timeOf_2 2 rfl rfl)
theorem dX1_timeOf_51 : decode cX1_timeOf 51 = .ok (.iload 4, 2) := dk_21 4 (dk_at dksX1_timeOf_2 4 rfl rfl)
theorem dX1_timeOf_53 : decode cX1_timeOf 53 = .ok (.if_icmp .ge 28, 3) := dk_162 0 28 (dk_at dksX1_timeOf_2 6 rfl rfl)
theorem dX1_timeOf_56 : decode cX1_timeOf 56 = .ok (.aload_n 0, 1) := dk_42 (dk_at dksX1_timeOf_2 9 rfl rfl)
theorem dX1_timeOf_57 : decode cX1_timeOf 57 = .ok (.getfield 41, 3) := dk_180 0 41 (dk_at dksX1_timeOf_2 10 rfl rfl)
theorem dX1_timeOf_60 : decode cX1_timeOf 60 = .ok (.iload 5, 2) := dk_21 5 (dk_at dksX1_timeOf_2 13 rfl rfl)
theorem dX1_timeOf_62 : decode cX1_timeOf 62 = .ok (.invokeinterface 109 2, 5) := by decide +kernel
theorem dX1_timeOf_67 : decode cX1_timeOf 67 = .ok (.checkcast 87, 3) := dk_192 0 87 (dk_at dksX1_timeOf_2 20 rfl rfl)
theorem dX1_timeOf_70 : decode cX1_timeOf 70 = .ok (.getfield 380, 3) := dk_180 1 124 (dk_at dksX1_timeOf_3 0 rfl rfl)
theorem dX1_timeOf_73 : decode cX1_timeOf 73 = .ok (.istore 5, 2) := dk_54 5 (dk_at dksX1_timeOf_3 3 rfl rfl)
theorem dX1_timeOf_75 : decode cX1_timeOf 75 = .ok (.iinc 6 1, 3) := dk_132 6 1 (dk_at dksX1_timeOf_3 5 rfl rfl)
theorem dX1_timeOf_78 : decode cX1_timeOf 78 = .ok (.goto (-29), 3) := dk_167 255 227 (dk_at dksX1_timeOf_3 8 rfl rfl)
theorem dX1_timeOf_81 : decode cX1_timeOf 81 = .ok (.iload_n 3, 1) := dk_29 (dk_at dksX1_timeOf_3 11 rfl rfl)
theorem dX1_timeOf_82 : decode cX1_timeOf 82 = .ok (.aload_n 0, 1) := dk_42 (dk_at dksX1_timeOf_3 12 rfl rfl)
theorem dX1_timeOf_83 : decode cX1_timeOf 83 = .ok (.getfield 41, 3) := dk_180 0 41 (dk_at dksX1_timeOf_3 13 rfl rfl)
theorem dX1_timeOf_86 : decode cX1_timeOf 86 = .ok (.iload 5, 2) := dk_21 5 (dk_at dksX1_timeOf_3 16 rfl rfl)
theorem dX1_timeOf_88 : decode cX1_timeOf 88 = .ok (.invokeinterface 109 2, 5) := by decide +kernel
theorem dX1_timeOf_93 : decode cX1_timeOf 93 = .ok (.checkcast 87, 3) := dk_192 0 87 (dk_at dksX1_timeOf_4 0 rfl rfl)
theorem dX1_timeOf_96 : decode cX1_timeOf 96 = .ok (.getfield 412, 3) := dk_180 1 156 (dk_at dksX1_timeOf_4 3 rfl rfl)
theorem dX1_timeOf_99 : decode cX1_timeOf 99 = .ok (.imul, 1) := dk_104 (dk_at dksX1_timeOf_4 6 rfl rfl)
theorem dX1_timeOf_100 : decode cX1_timeOf 100 = .ok (.aload_n 0, 1) := dk_42 (dk_at dksX1_timeOf_4 7 rfl rfl)
theorem dX1_timeOf_101 : decode cX1_timeOf 101 = .ok (.aload_n 0, 1) := dk_42 (dk_at dksX1_timeOf_4 8 rfl rfl)
theorem dX1_timeOf_102 : decode cX1_timeOf 102 = .ok (.getfield 41, 3) := dk_180 0 41 (dk_at dksX1_timeOf_4 9 rfl rfl)
theorem dX1_timeOf_105 : decode cX1_timeOf 105 = .ok (.iload 5, 2) := dk_21 5 (dk_at dksX1_timeOf_4 12 rfl rfl)
theorem dX1_timeOf_107 : decode cX1_timeOf 107 = .ok (.invokeinterface 109 2, 5) := by decide +kernel
theorem dX1_timeOf_112 : decode cX1_timeOf 112 = .ok (.checkcast 87, 3) := dk_192 0 87 (dk_at dksX1_timeOf_4 19 rfl rfl)
theorem dX1_timeOf_115 : decode cX1_timeOf 115 = .ok (.getfield 380, 3) := dk_180 1 124 (dk_at dksX1_timeOf_5 0 rfl rfl)
theorem dX1_timeOf_118 : decode cX1_timeOf 118 = .ok (.invokevirtual 415, 3) := dk_182 1 159 (dk_at dksX1_timeOf_5 3 rfl rfl)
theorem dX1_timeOf_121 : decode cX1_timeOf 121 = .ok (.idiv, 1) := dk_108 (dk_at dksX1_timeOf_5 6 rfl rfl)
theorem dX1_timeOf_122 : decode cX1_timeOf 122 = .ok (.istore_n 3, 1) := dk_62 (dk_at dksX1_timeOf_5 7 rfl rfl)
theorem dX1_timeOf_123 : decode cX1_timeOf 123 = .ok (.iinc 4 (-1), 3) := dk_132 4 255 (dk_at dksX1_timeOf_5 8 rfl rfl)
theorem dX1_timeOf_126 : decode cX1_timeOf 126 = .ok (.goto (-88), 3) := dk_167 255 168 (dk_at dksX1_timeOf_5 11 rfl rfl)
theorem dX1_timeOf_129 : decode cX1_timeOf 129 = .ok (.iload_n 3, 1) := dk_29 (dk_at dksX1_timeOf_5 14 rfl rfl)
theorem dX1_timeOf_130 : decode cX1_timeOf 130 = .ok (.ireturn, 1) := dk_172 (dk_at dksX1_timeOf_5 15 rfl rfl)
abbrev cX1_sharesIn : ByteArray := prog_1_method_64_code
def yX1_sharesIn : MethodName := ⟨RX1, "sharesIn", "(I)I"⟩
def dkwX1_sharesIn_4 : List UInt8 := [172]
abbrev dktX1_sharesIn_4 : List UInt8 := dkwX1_sharesIn_4 ++ []
def dkwX1_sharesIn_3 : List UInt8 := [185, 0, 109, 2, 0, 192, 0, 87, 180, 1, 156, 167, 0, 4, 3, 96, 61, 132, 3, 1, 167, 255, 189, 28]
abbrev dktX1_sharesIn_3 : List UInt8 := dkwX1_sharesIn_3 ++ dktX1_sharesIn_4
def dkwX1_sharesIn_2 : List UInt8 := [180, 1, 124, 27, 160, 0, 30, 42, 29, 182, 1, 133, 158, 0, 22, 42, 180, 0, 41, 29]
abbrev dktX1_sharesIn_2 : List UInt8 := dkwX1_sharesIn_2 ++ dktX1_sharesIn_3
def dkwX1_sharesIn_1 : List UInt8 := [185, 0, 105, 1, 0, 162, 0, 60, 28, 42, 180, 0, 41, 29, 185, 0, 109, 2, 0, 192, 0, 87]
abbrev dktX1_sharesIn_1 : List UInt8 := dkwX1_sharesIn_1 ++ dktX1_sharesIn_2
def dkwX1_sharesIn_0 : List UInt8 := [42, 27, 182, 1, 153, 158, 0, 7, 4, 167, 0, 4, 3, 61, 3, 62, 29, 42, 180, 0, 41]
abbrev dktX1_sharesIn_0 : List UInt8 := dkwX1_sharesIn_0 ++ dktX1_sharesIn_1
theorem dksX1_sharesIn_0 : cX1_sharesIn.data.toList.drop 0 = dktX1_sharesIn_0 := by decide +kernel
theorem dksX1_sharesIn_1 : cX1_sharesIn.data.toList.drop 21 = dktX1_sharesIn_1 := dk_seg dksX1_sharesIn_0 21 rfl rfl
theorem dksX1_sharesIn_2 : cX1_sharesIn.data.toList.drop 43 = dktX1_sharesIn_2 := dk_seg dksX1_sharesIn_1 22 rfl rfl
theorem dksX1_sharesIn_3 : cX1_sharesIn.data.toList.drop 63 = dktX1_sharesIn_3 := dk_seg dksX1_sharesIn_2 20 rfl rfl
theorem dksX1_sharesIn_4 : cX1_sharesIn.data.toList.drop 87 = dktX1_sharesIn_4 := dk_seg dksX1_sharesIn_3 24 rfl rfl
theorem dX1_sharesIn_0 : decode cX1_sharesIn 0 = .ok (.aload_n 0, 1) := dk_42 (dk_at dksX1_sharesIn_0 0 rfl rfl)
theorem dX1_sharesIn_1 : decode cX1_sharesIn 1 = .ok (.iload_n 1, 1) := dk_27 (dk_at dksX1_sharesIn_0 1 rfl rfl)
theorem dX1_sharesIn_2 : decode cX1_sharesIn 2 = .ok (.invokevirtual 409, 3) := dk_182 1 153 (dk_at dksX1_sharesIn_0 2 rfl rfl)
theorem dX1_sharesIn_5 : decode cX1_sharesIn 5 = .ok (.ifCond .le 7, 3) := dk_158 0 7 (dk_at dksX1_sharesIn_0 5 rfl rfl)
theorem dX1_sharesIn_8 : decode cX1_sharesIn 8 = .ok (.iconst 1, 1) := dk_4 (dk_at dksX1_sharesIn_0 8 rfl rfl)
theorem dX1_sharesIn_9 : decode cX1_sharesIn 9 = .ok (.goto 4, 3) := dk_167 0 4 (dk_at dksX1_sharesIn_0 9 rfl rfl)
theorem dX1_sharesIn_12 : decode cX1_sharesIn 12 = .ok (.iconst 0, 1) := dk_3 (dk_at dksX1_sharesIn_0 12 rfl rfl)
theorem dX1_sharesIn_13 : decode cX1_sharesIn 13 = .ok (.istore_n 2, 1) := dk_61 (dk_at dksX1_sharesIn_0 13 rfl rfl)
theorem dX1_sharesIn_14 : decode cX1_sharesIn 14 = .ok (.iconst 0, 1) := dk_3 (dk_at dksX1_sharesIn_0 14 rfl rfl)
theorem dX1_sharesIn_15 : decode cX1_sharesIn 15 = .ok (.istore_n 3, 1) := dk_62 (dk_at dksX1_sharesIn_0 15 rfl rfl)
theorem dX1_sharesIn_16 : decode cX1_sharesIn 16 = .ok (.iload_n 3, 1) := dk_29 (dk_at dksX1_sharesIn_0 16 rfl rfl)
theorem dX1_sharesIn_17 : decode cX1_sharesIn 17 = .ok (.aload_n 0, 1) := dk_42 (dk_at dksX1_sharesIn_0 17 rfl rfl)
theorem dX1_sharesIn_18 : decode cX1_sharesIn 18 = .ok (.getfield 41, 3) := dk_180 0 41 (dk_at dksX1_sharesIn_0 18 rfl rfl)
theorem dX1_sharesIn_21 : decode cX1_sharesIn 21 = .ok (.invokeinterface 105 1, 5) := by decide +kernel
theorem dX1_sharesIn_26 : decode cX1_sharesIn 26 = .ok (.if_icmp .ge 60, 3) := dk_162 0 60 (dk_at dksX1_sharesIn_1 5 rfl rfl)
theorem dX1_sharesIn_29 : decode cX1_sharesIn 29 = .ok (.iload_n 2, 1) := dk_28 (dk_at dksX1_sharesIn_1 8 rfl rfl)
theorem dX1_sharesIn_30 : decode cX1_sharesIn 30 = .ok (.aload_n 0, 1) := dk_42 (dk_at dksX1_sharesIn_1 9 rfl rfl)
theorem dX1_sharesIn_31 : decode cX1_sharesIn 31 = .ok (.getfield 41, 3) := dk_180 0 41 (dk_at dksX1_sharesIn_1 10 rfl rfl)
theorem dX1_sharesIn_34 : decode cX1_sharesIn 34 = .ok (.iload_n 3, 1) := dk_29 (dk_at dksX1_sharesIn_1 13 rfl rfl)
theorem dX1_sharesIn_35 : decode cX1_sharesIn 35 = .ok (.invokeinterface 109 2, 5) := by decide +kernel
theorem dX1_sharesIn_40 : decode cX1_sharesIn 40 = .ok (.checkcast 87, 3) := dk_192 0 87 (dk_at dksX1_sharesIn_1 19 rfl rfl)
theorem dX1_sharesIn_43 : decode cX1_sharesIn 43 = .ok (.getfield 380, 3) := dk_180 1 124 (dk_at dksX1_sharesIn_2 0 rfl rfl)
theorem dX1_sharesIn_46 : decode cX1_sharesIn 46 = .ok (.iload_n 1, 1) := dk_27 (dk_at dksX1_sharesIn_2 3 rfl rfl)
theorem dX1_sharesIn_47 : decode cX1_sharesIn 47 = .ok (.if_icmp .ne 30, 3) := dk_160 0 30 (dk_at dksX1_sharesIn_2 4 rfl rfl)
theorem dX1_sharesIn_50 : decode cX1_sharesIn 50 = .ok (.aload_n 0, 1) := dk_42 (dk_at dksX1_sharesIn_2 7 rfl rfl)
theorem dX1_sharesIn_51 : decode cX1_sharesIn 51 = .ok (.iload_n 3, 1) := dk_29 (dk_at dksX1_sharesIn_2 8 rfl rfl)
theorem dX1_sharesIn_52 : decode cX1_sharesIn 52 = .ok (.invokevirtual 389, 3) := dk_182 1 133 (dk_at dksX1_sharesIn_2 9 rfl rfl)
theorem dX1_sharesIn_55 : decode cX1_sharesIn 55 = .ok (.ifCond .le 22, 3) := dk_158 0 22 (dk_at dksX1_sharesIn_2 12 rfl rfl)
theorem dX1_sharesIn_58 : decode cX1_sharesIn 58 = .ok (.aload_n 0, 1) := dk_42 (dk_at dksX1_sharesIn_2 15 rfl rfl)
theorem dX1_sharesIn_59 : decode cX1_sharesIn 59 = .ok (.getfield 41, 3) := dk_180 0 41 (dk_at dksX1_sharesIn_2 16 rfl rfl)
theorem dX1_sharesIn_62 : decode cX1_sharesIn 62 = .ok (.iload_n 3, 1) := dk_29 (dk_at dksX1_sharesIn_2 19 rfl rfl)
theorem dX1_sharesIn_63 : decode cX1_sharesIn 63 = .ok (.invokeinterface 109 2, 5) := by decide +kernel
theorem dX1_sharesIn_68 : decode cX1_sharesIn 68 = .ok (.checkcast 87, 3) := dk_192 0 87 (dk_at dksX1_sharesIn_3 5 rfl rfl)
theorem dX1_sharesIn_71 : decode cX1_sharesIn 71 = .ok (.getfield 412, 3) := dk_180 1 156 (dk_at dksX1_sharesIn_3 8 rfl rfl)
theorem dX1_sharesIn_74 : decode cX1_sharesIn 74 = .ok (.goto 4, 3) := dk_167 0 4 (dk_at dksX1_sharesIn_3 11 rfl rfl)
theorem dX1_sharesIn_77 : decode cX1_sharesIn 77 = .ok (.iconst 0, 1) := dk_3 (dk_at dksX1_sharesIn_3 14 rfl rfl)
theorem dX1_sharesIn_78 : decode cX1_sharesIn 78 = .ok (.iadd, 1) := dk_96 (dk_at dksX1_sharesIn_3 15 rfl rfl)
theorem dX1_sharesIn_79 : decode cX1_sharesIn 79 = .ok (.istore_n 2, 1) := dk_61 (dk_at dksX1_sharesIn_3 16 rfl rfl)
theorem dX1_sharesIn_80 : decode cX1_sharesIn 80 = .ok (.iinc 3 1, 3) := dk_132 3 1 (dk_at dksX1_sharesIn_3 17 rfl rfl)
theorem dX1_sharesIn_83 : decode cX1_sharesIn 83 = .ok (.goto (-67), 3) := dk_167 255 189 (dk_at dksX1_sharesIn_3 20 rfl rfl)
theorem dX1_sharesIn_86 : decode cX1_sharesIn 86 = .ok (.iload_n 2, 1) := dk_28 (dk_at dksX1_sharesIn_3 23 rfl rfl)
theorem dX1_sharesIn_87 : decode cX1_sharesIn 87 = .ok (.ireturn, 1) := dk_172 (dk_at dksX1_sharesIn_4 0 rfl rfl)
abbrev cX1_ownProcesses : ByteArray := prog_1_method_63_code
def yX1_ownProcesses : MethodName := ⟨RX1, "ownProcesses", "(I)I"⟩
def dkwX1_ownProcesses_2 : List UInt8 := [132, 3, 1, 167, 255, 212, 28, 172]
abbrev dktX1_ownProcesses_2 : List UInt8 := dkwX1_ownProcesses_2 ++ []
def dkwX1_ownProcesses_1 : List UInt8 := [185, 0, 109, 2, 0, 192, 0, 119, 180, 1, 125, 27, 160, 0, 7, 4, 167, 0, 4, 3, 96, 61]
abbrev dktX1_ownProcesses_1 : List UInt8 := dkwX1_ownProcesses_1 ++ dktX1_ownProcesses_2
def dkwX1_ownProcesses_0 : List UInt8 := [3, 61, 3, 62, 29, 42, 180, 0, 44, 185, 0, 105, 1, 0, 162, 0, 37, 28, 42, 180, 0, 44, 29]
abbrev dktX1_ownProcesses_0 : List UInt8 := dkwX1_ownProcesses_0 ++ dktX1_ownProcesses_1
theorem dksX1_ownProcesses_0 : cX1_ownProcesses.data.toList.drop 0 = dktX1_ownProcesses_0 := by decide +kernel
theorem dksX1_ownProcesses_1 : cX1_ownProcesses.data.toList.drop 23 = dktX1_ownProcesses_1 := dk_seg dksX1_ownProcesses_0 23 rfl rfl
theorem dksX1_ownProcesses_2 : cX1_ownProcesses.data.toList.drop 45 = dktX1_ownProcesses_2 := dk_seg dksX1_ownProcesses_1 22 rfl rfl
theorem dX1_ownProcesses_0 : decode cX1_ownProcesses 0 = .ok (.iconst 0, 1) := dk_3 (dk_at dksX1_ownProcesses_0 0 rfl rfl)
theorem dX1_ownProcesses_1 : decode cX1_ownProcesses 1 = .ok (.istore_n 2, 1) := dk_61 (dk_at dksX1_ownProcesses_0 1 rfl rfl)
theorem dX1_ownProcesses_2 : decode cX1_ownProcesses 2 = .ok (.iconst 0, 1) := dk_3 (dk_at dksX1_ownProcesses_0 2 rfl rfl)
theorem dX1_ownProcesses_3 : decode cX1_ownProcesses 3 = .ok (.istore_n 3, 1) := dk_62 (dk_at dksX1_ownProcesses_0 3 rfl rfl)
theorem dX1_ownProcesses_4 : decode cX1_ownProcesses 4 = .ok (.iload_n 3, 1) := dk_29 (dk_at dksX1_ownProcesses_0 4 rfl rfl)
theorem dX1_ownProcesses_5 : decode cX1_ownProcesses 5 = .ok (.aload_n 0, 1) := dk_42 (dk_at dksX1_ownProcesses_0 5 rfl rfl)
theorem dX1_ownProcesses_6 : decode cX1_ownProcesses 6 = .ok (.getfield 44, 3) := dk_180 0 44 (dk_at dksX1_ownProcesses_0 6 rfl rfl)
theorem dX1_ownProcesses_9 : decode cX1_ownProcesses 9 = .ok (.invokeinterface 105 1, 5) := by decide +kernel
theorem dX1_ownProcesses_14 : decode cX1_ownProcesses 14 = .ok (.if_icmp .ge 37, 3) := dk_162 0 37 (dk_at dksX1_ownProcesses_0 14 rfl rfl)
theorem dX1_ownProcesses_17 : decode cX1_ownProcesses 17 = .ok (.iload_n 2, 1) := dk_28 (dk_at dksX1_ownProcesses_0 17 rfl rfl)
theorem dX1_ownProcesses_18 : decode cX1_ownProcesses 18 = .ok (.aload_n 0, 1) := dk_42 (dk_at dksX1_ownProcesses_0 18 rfl rfl)
theorem dX1_ownProcesses_19 : decode cX1_ownProcesses 19 = .ok (.getfield 44, 3) := dk_180 0 44 (dk_at dksX1_ownProcesses_0 19 rfl rfl)
theorem dX1_ownProcesses_22 : decode cX1_ownProcesses 22 = .ok (.iload_n 3, 1) := dk_29 (dk_at dksX1_ownProcesses_0 22 rfl rfl)
theorem dX1_ownProcesses_23 : decode cX1_ownProcesses 23 = .ok (.invokeinterface 109 2, 5) := by decide +kernel
theorem dX1_ownProcesses_28 : decode cX1_ownProcesses 28 = .ok (.checkcast 119, 3) := dk_192 0 119 (dk_at dksX1_ownProcesses_1 5 rfl rfl)
theorem dX1_ownProcesses_31 : decode cX1_ownProcesses 31 = .ok (.getfield 381, 3) := dk_180 1 125 (dk_at dksX1_ownProcesses_1 8 rfl rfl)
theorem dX1_ownProcesses_34 : decode cX1_ownProcesses 34 = .ok (.iload_n 1, 1) := dk_27 (dk_at dksX1_ownProcesses_1 11 rfl rfl)
theorem dX1_ownProcesses_35 : decode cX1_ownProcesses 35 = .ok (.if_icmp .ne 7, 3) := dk_160 0 7 (dk_at dksX1_ownProcesses_1 12 rfl rfl)
theorem dX1_ownProcesses_38 : decode cX1_ownProcesses 38 = .ok (.iconst 1, 1) := dk_4 (dk_at dksX1_ownProcesses_1 15 rfl rfl)
theorem dX1_ownProcesses_39 : decode cX1_ownProcesses 39 = .ok (.goto 4, 3) := dk_167 0 4 (dk_at dksX1_ownProcesses_1 16 rfl rfl)
theorem dX1_ownProcesses_42 : decode cX1_ownProcesses 42 = .ok (.iconst 0, 1) := dk_3 (dk_at dksX1_ownProcesses_1 19 rfl rfl)
theorem dX1_ownProcesses_43 : decode cX1_ownProcesses 43 = .ok (.iadd, 1) := dk_96 (dk_at dksX1_ownProcesses_1 20 rfl rfl)
theorem dX1_ownProcesses_44 : decode cX1_ownProcesses 44 = .ok (.istore_n 2, 1) := dk_61 (dk_at dksX1_ownProcesses_1 21 rfl rfl)
theorem dX1_ownProcesses_45 : decode cX1_ownProcesses 45 = .ok (.iinc 3 1, 3) := dk_132 3 1 (dk_at dksX1_ownProcesses_2 0 rfl rfl)
theorem dX1_ownProcesses_48 : decode cX1_ownProcesses 48 = .ok (.goto (-44), 3) := dk_167 255 212 (dk_at dksX1_ownProcesses_2 3 rfl rfl)
theorem dX1_ownProcesses_51 : decode cX1_ownProcesses 51 = .ok (.iload_n 2, 1) := dk_28 (dk_at dksX1_ownProcesses_2 6 rfl rfl)
theorem dX1_ownProcesses_52 : decode cX1_ownProcesses 52 = .ok (.ireturn, 1) := dk_172 (dk_at dksX1_ownProcesses_2 7 rfl rfl)
abbrev cX1_groupHas : ByteArray := prog_1_method_67_code
def yX1_groupHas : MethodName := ⟨RX1, "groupHas", "(II)I"⟩
def dkwX1_groupHas_1 : List UInt8 := [42, 27, 182, 1, 146, 172]
abbrev dktX1_groupHas_1 : List UInt8 := dkwX1_groupHas_1 ++ []
def dkwX1_groupHas_0 : List UInt8 := [42, 27, 182, 1, 120, 87, 28, 3, 4, 184, 0, 125, 28, 154, 0, 11, 42, 27, 182, 1, 133, 167, 0, 8]
abbrev dktX1_groupHas_0 : List UInt8 := dkwX1_groupHas_0 ++ dktX1_groupHas_1
theorem dksX1_groupHas_0 : cX1_groupHas.data.toList.drop 0 = dktX1_groupHas_0 := by decide +kernel
theorem dksX1_groupHas_1 : cX1_groupHas.data.toList.drop 24 = dktX1_groupHas_1 := dk_seg dksX1_groupHas_0 24 rfl rfl
theorem dX1_groupHas_0 : decode cX1_groupHas 0 = .ok (.aload_n 0, 1) := dk_42 (dk_at dksX1_groupHas_0 0 rfl rfl)
theorem dX1_groupHas_1 : decode cX1_groupHas 1 = .ok (.iload_n 1, 1) := dk_27 (dk_at dksX1_groupHas_0 1 rfl rfl)
theorem dX1_groupHas_2 : decode cX1_groupHas 2 = .ok (.invokevirtual 376, 3) := dk_182 1 120 (dk_at dksX1_groupHas_0 2 rfl rfl)
theorem dX1_groupHas_5 : decode cX1_groupHas 5 = .ok (.pop, 1) := dk_87 (dk_at dksX1_groupHas_0 5 rfl rfl)
theorem dX1_groupHas_6 : decode cX1_groupHas 6 = .ok (.iload_n 2, 1) := dk_28 (dk_at dksX1_groupHas_0 6 rfl rfl)
theorem dX1_groupHas_7 : decode cX1_groupHas 7 = .ok (.iconst 0, 1) := dk_3 (dk_at dksX1_groupHas_0 7 rfl rfl)
theorem dX1_groupHas_8 : decode cX1_groupHas 8 = .ok (.iconst 1, 1) := dk_4 (dk_at dksX1_groupHas_0 8 rfl rfl)
theorem dX1_groupHas_9 : decode cX1_groupHas 9 = .ok (.invokestatic 125, 3) := dk_184 0 125 (dk_at dksX1_groupHas_0 9 rfl rfl)
theorem dX1_groupHas_12 : decode cX1_groupHas 12 = .ok (.iload_n 2, 1) := dk_28 (dk_at dksX1_groupHas_0 12 rfl rfl)
theorem dX1_groupHas_13 : decode cX1_groupHas 13 = .ok (.ifCond .ne 11, 3) := dk_154 0 11 (dk_at dksX1_groupHas_0 13 rfl rfl)
theorem dX1_groupHas_16 : decode cX1_groupHas 16 = .ok (.aload_n 0, 1) := dk_42 (dk_at dksX1_groupHas_0 16 rfl rfl)
theorem dX1_groupHas_17 : decode cX1_groupHas 17 = .ok (.iload_n 1, 1) := dk_27 (dk_at dksX1_groupHas_0 17 rfl rfl)
theorem dX1_groupHas_18 : decode cX1_groupHas 18 = .ok (.invokevirtual 389, 3) := dk_182 1 133 (dk_at dksX1_groupHas_0 18 rfl rfl)
theorem dX1_groupHas_21 : decode cX1_groupHas 21 = .ok (.goto 8, 3) := dk_167 0 8 (dk_at dksX1_groupHas_0 21 rfl rfl)
theorem dX1_groupHas_24 : decode cX1_groupHas 24 = .ok (.aload_n 0, 1) := dk_42 (dk_at dksX1_groupHas_1 0 rfl rfl)
theorem dX1_groupHas_25 : decode cX1_groupHas 25 = .ok (.iload_n 1, 1) := dk_27 (dk_at dksX1_groupHas_1 1 rfl rfl)
theorem dX1_groupHas_26 : decode cX1_groupHas 26 = .ok (.invokevirtual 402, 3) := dk_182 1 146 (dk_at dksX1_groupHas_1 2 rfl rfl)
theorem dX1_groupHas_29 : decode cX1_groupHas 29 = .ok (.ireturn, 1) := dk_172 (dk_at dksX1_groupHas_1 5 rfl rfl)
abbrev cX1_filter : ByteArray := prog_1_method_68_code
def yX1_filter : MethodName := ⟨RX1, "filter", "(III)I"⟩
def dkwX1_filter_3 : List UInt8 := [180, 1, 166, 185, 0, 105, 1, 0, 172]
abbrev dktX1_filter_3 : List UInt8 := dkwX1_filter_3 ++ []
def dkwX1_filter_2 : List UInt8 := [25, 4, 180, 1, 166, 187, 1, 169, 89, 28, 29, 183, 1, 171, 185, 0, 76, 2, 0, 87, 25, 4]
abbrev dktX1_filter_2 : List UInt8 := dkwX1_filter_2 ++ dktX1_filter_3
def dkwX1_filter_1 : List UInt8 := [25, 4, 180, 1, 166, 185, 0, 105, 1, 0, 16, 6, 162, 0, 7, 4, 167, 0, 4, 3, 184, 0, 136]
abbrev dktX1_filter_1 : List UInt8 := dkwX1_filter_1 ++ dktX1_filter_2
def dkwX1_filter_0 : List UInt8 := [42, 27, 182, 1, 23, 58, 4, 28, 3, 19, 1, 165, 184, 0, 125, 29, 3, 19, 1, 165, 184, 0, 125]
abbrev dktX1_filter_0 : List UInt8 := dkwX1_filter_0 ++ dktX1_filter_1
theorem dksX1_filter_0 : cX1_filter.data.toList.drop 0 = dktX1_filter_0 := by decide +kernel
theorem dksX1_filter_1 : cX1_filter.data.toList.drop 23 = dktX1_filter_1 := dk_seg dksX1_filter_0 23 rfl rfl
theorem dksX1_filter_2 : cX1_filter.data.toList.drop 46 = dktX1_filter_2 := dk_seg dksX1_filter_1 23 rfl rfl
theorem dksX1_filter_3 : cX1_filter.data.toList.drop 68 = dktX1_filter_3 := dk_seg dksX1_filter_2 22 rfl rfl
theorem dX1_filter_0 : decode cX1_filter 0 = .ok (.aload_n 0, 1) := dk_42 (dk_at dksX1_filter_0 0 rfl rfl)
theorem dX1_filter_1 : decode cX1_filter 1 = .ok (.iload_n 1, 1) := dk_27 (dk_at dksX1_filter_0 1 rfl rfl)
theorem dX1_filter_2 : decode cX1_filter 2 = .ok (.invokevirtual 279, 3) := dk_182 1 23 (dk_at dksX1_filter_0 2 rfl rfl)
theorem dX1_filter_5 : decode cX1_filter 5 = .ok (.astore 4, 2) := dk_58 4 (dk_at dksX1_filter_0 5 rfl rfl)
theorem dX1_filter_7 : decode cX1_filter 7 = .ok (.iload_n 2, 1) := dk_28 (dk_at dksX1_filter_0 7 rfl rfl)
theorem dX1_filter_8 : decode cX1_filter 8 = .ok (.iconst 0, 1) := dk_3 (dk_at dksX1_filter_0 8 rfl rfl)
theorem dX1_filter_9 : decode cX1_filter 9 = .ok (.ldc_w 421, 3) := dk_19 1 165 (dk_at dksX1_filter_0 9 rfl rfl)
theorem dX1_filter_12 : decode cX1_filter 12 = .ok (.invokestatic 125, 3) := dk_184 0 125 (dk_at dksX1_filter_0 12 rfl rfl)
theorem dX1_filter_15 : decode cX1_filter 15 = .ok (.iload_n 3, 1) := dk_29 (dk_at dksX1_filter_0 15 rfl rfl)
theorem dX1_filter_16 : decode cX1_filter 16 = .ok (.iconst 0, 1) := dk_3 (dk_at dksX1_filter_0 16 rfl rfl)
theorem dX1_filter_17 : decode cX1_filter 17 = .ok (.ldc_w 421, 3) := dk_19 1 165 (dk_at dksX1_filter_0 17 rfl rfl)
theorem dX1_filter_20 : decode cX1_filter 20 = .ok (.invokestatic 125, 3) := dk_184 0 125 (dk_at dksX1_filter_0 20 rfl rfl)
theorem dX1_filter_23 : decode cX1_filter 23 = .ok (.aload 4, 2) := dk_25 4 (dk_at dksX1_filter_1 0 rfl rfl)
theorem dX1_filter_25 : decode cX1_filter 25 = .ok (.getfield 422, 3) := dk_180 1 166 (dk_at dksX1_filter_1 2 rfl rfl)
theorem dX1_filter_28 : decode cX1_filter 28 = .ok (.invokeinterface 105 1, 5) := by decide +kernel
theorem dX1_filter_33 : decode cX1_filter 33 = .ok (.bipush 6, 2) := dk_16 6 (dk_at dksX1_filter_1 10 rfl rfl)
theorem dX1_filter_35 : decode cX1_filter 35 = .ok (.if_icmp .ge 7, 3) := dk_162 0 7 (dk_at dksX1_filter_1 12 rfl rfl)
theorem dX1_filter_38 : decode cX1_filter 38 = .ok (.iconst 1, 1) := dk_4 (dk_at dksX1_filter_1 15 rfl rfl)
theorem dX1_filter_39 : decode cX1_filter 39 = .ok (.goto 4, 3) := dk_167 0 4 (dk_at dksX1_filter_1 16 rfl rfl)
theorem dX1_filter_42 : decode cX1_filter 42 = .ok (.iconst 0, 1) := dk_3 (dk_at dksX1_filter_1 19 rfl rfl)
theorem dX1_filter_43 : decode cX1_filter 43 = .ok (.invokestatic 136, 3) := dk_184 0 136 (dk_at dksX1_filter_1 20 rfl rfl)
theorem dX1_filter_46 : decode cX1_filter 46 = .ok (.aload 4, 2) := dk_25 4 (dk_at dksX1_filter_2 0 rfl rfl)
theorem dX1_filter_48 : decode cX1_filter 48 = .ok (.getfield 422, 3) := dk_180 1 166 (dk_at dksX1_filter_2 2 rfl rfl)
theorem dX1_filter_51 : decode cX1_filter 51 = .ok (.new 425, 3) := dk_187 1 169 (dk_at dksX1_filter_2 5 rfl rfl)
theorem dX1_filter_54 : decode cX1_filter 54 = .ok (.dup, 1) := dk_89 (dk_at dksX1_filter_2 8 rfl rfl)
theorem dX1_filter_55 : decode cX1_filter 55 = .ok (.iload_n 2, 1) := dk_28 (dk_at dksX1_filter_2 9 rfl rfl)
theorem dX1_filter_56 : decode cX1_filter 56 = .ok (.iload_n 3, 1) := dk_29 (dk_at dksX1_filter_2 10 rfl rfl)
theorem dX1_filter_57 : decode cX1_filter 57 = .ok (.invokespecial 427, 3) := dk_183 1 171 (dk_at dksX1_filter_2 11 rfl rfl)
theorem dX1_filter_60 : decode cX1_filter 60 = .ok (.invokeinterface 76 2, 5) := by decide +kernel
theorem dX1_filter_65 : decode cX1_filter 65 = .ok (.pop, 1) := dk_87 (dk_at dksX1_filter_2 19 rfl rfl)
theorem dX1_filter_66 : decode cX1_filter 66 = .ok (.aload 4, 2) := dk_25 4 (dk_at dksX1_filter_2 20 rfl rfl)
theorem dX1_filter_68 : decode cX1_filter 68 = .ok (.getfield 422, 3) := dk_180 1 166 (dk_at dksX1_filter_3 0 rfl rfl)
theorem dX1_filter_71 : decode cX1_filter 71 = .ok (.invokeinterface 105 1, 5) := by decide +kernel
theorem dX1_filter_76 : decode cX1_filter 76 = .ok (.ireturn, 1) := dk_172 (dk_at dksX1_filter_3 8 rfl rfl)
abbrev cX1_call : ByteArray := prog_1_method_69_code
def yX1_call : MethodName := ⟨RX1, "call", "(II)I"⟩
def dkwX1_call_6 : List UInt8 := [42, 180, 0, 44, 45, 185, 1, 14, 2, 0, 87, 21, 5, 172]
abbrev dktX1_call_6 : List UInt8 := dkwX1_call_6 ++ []
def dkwX1_call_5 : List UInt8 := [4, 167, 0, 4, 3, 21, 5, 184, 1, 98, 54, 5, 132, 6, 1, 167, 255, 155, 21, 5, 5, 160, 0, 14]
abbrev dktX1_call_5 : List UInt8 := dkwX1_call_5 ++ dktX1_call_6
def dkwX1_call_4 : List UInt8 := [160, 0, 7, 4, 167, 0, 4, 3, 54, 8, 21, 8, 153, 0, 7, 5, 167, 0, 13, 21, 7, 153, 0, 7]
abbrev dktX1_call_4 : List UInt8 := dkwX1_call_4 ++ dktX1_call_5
def dkwX1_call_3 : List UInt8 := [54, 7, 25, 4, 21, 6, 185, 0, 109, 2, 0, 192, 1, 169, 182, 1, 175, 28, 122, 4, 126, 4]
abbrev dktX1_call_3 : List UInt8 := dkwX1_call_3 ++ dktX1_call_4
def dkwX1_call_2 : List UInt8 := [185, 0, 109, 2, 0, 192, 1, 169, 182, 1, 172, 28, 122, 4, 126, 4, 160, 0, 7, 4, 167, 0, 4, 3]
abbrev dktX1_call_2 : List UInt8 := dkwX1_call_2 ++ dktX1_call_3
def dkwX1_call_1 : List UInt8 := [58, 4, 3, 54, 5, 3, 54, 6, 21, 6, 25, 4, 185, 0, 105, 1, 0, 162, 0, 95, 25, 4, 21, 6]
abbrev dktX1_call_1 : List UInt8 := dkwX1_call_1 ++ dktX1_call_2
def dkwX1_call_0 : List UInt8 := [42, 27, 182, 1, 142, 78, 28, 3, 16, 15, 184, 0, 125, 42, 45, 180, 1, 17, 182, 1, 23, 180, 1, 166]
abbrev dktX1_call_0 : List UInt8 := dkwX1_call_0 ++ dktX1_call_1
theorem dksX1_call_0 : cX1_call.data.toList.drop 0 = dktX1_call_0 := by decide +kernel
theorem dksX1_call_1 : cX1_call.data.toList.drop 24 = dktX1_call_1 := dk_seg dksX1_call_0 24 rfl rfl
theorem dksX1_call_2 : cX1_call.data.toList.drop 48 = dktX1_call_2 := dk_seg dksX1_call_1 24 rfl rfl
theorem dksX1_call_3 : cX1_call.data.toList.drop 72 = dktX1_call_3 := dk_seg dksX1_call_2 24 rfl rfl
theorem dksX1_call_4 : cX1_call.data.toList.drop 94 = dktX1_call_4 := dk_seg dksX1_call_3 22 rfl rfl
theorem dksX1_call_5 : cX1_call.data.toList.drop 118 = dktX1_call_5 := dk_seg dksX1_call_4 24 rfl rfl
theorem dksX1_call_6 : cX1_call.data.toList.drop 142 = dktX1_call_6 := dk_seg dksX1_call_5 24 rfl rfl
theorem dX1_call_0 : decode cX1_call 0 = .ok (.aload_n 0, 1) := dk_42 (dk_at dksX1_call_0 0 rfl rfl)
theorem dX1_call_1 : decode cX1_call 1 = .ok (.iload_n 1, 1) := dk_27 (dk_at dksX1_call_0 1 rfl rfl)
theorem dX1_call_2 : decode cX1_call 2 = .ok (.invokevirtual 398, 3) := dk_182 1 142 (dk_at dksX1_call_0 2 rfl rfl)
theorem dX1_call_5 : decode cX1_call 5 = .ok (.astore_n 3, 1) := dk_78 (dk_at dksX1_call_0 5 rfl rfl)
theorem dX1_call_6 : decode cX1_call 6 = .ok (.iload_n 2, 1) := dk_28 (dk_at dksX1_call_0 6 rfl rfl)
theorem dX1_call_7 : decode cX1_call 7 = .ok (.iconst 0, 1) := dk_3 (dk_at dksX1_call_0 7 rfl rfl)
theorem dX1_call_8 : decode cX1_call 8 = .ok (.bipush 15, 2) := dk_16 15 (dk_at dksX1_call_0 8 rfl rfl)
theorem dX1_call_10 : decode cX1_call 10 = .ok (.invokestatic 125, 3) := dk_184 0 125 (dk_at dksX1_call_0 10 rfl rfl)
theorem dX1_call_13 : decode cX1_call 13 = .ok (.aload_n 0, 1) := dk_42 (dk_at dksX1_call_0 13 rfl rfl)
theorem dX1_call_14 : decode cX1_call 14 = .ok (.aload_n 3, 1) := dk_45 (dk_at dksX1_call_0 14 rfl rfl)
theorem dX1_call_15 : decode cX1_call 15 = .ok (.getfield 273, 3) := dk_180 1 17 (dk_at dksX1_call_0 15 rfl rfl)
theorem dX1_call_18 : decode cX1_call 18 = .ok (.invokevirtual 279, 3) := dk_182 1 23 (dk_at dksX1_call_0 18 rfl rfl)
theorem dX1_call_21 : decode cX1_call 21 = .ok (.getfield 422, 3) := dk_180 1 166 (dk_at dksX1_call_0 21 rfl rfl)
theorem dX1_call_24 : decode cX1_call 24 = .ok (.astore 4, 2) := dk_58 4 (dk_at dksX1_call_1 0 rfl rfl)
theorem dX1_call_26 : decode cX1_call 26 = .ok (.iconst 0, 1) := dk_3 (dk_at dksX1_call_1 2 rfl rfl)
theorem dX1_call_27 : decode cX1_call 27 = .ok (.istore 5, 2) := dk_54 5 (dk_at dksX1_call_1 3 rfl rfl)
theorem dX1_call_29 : decode cX1_call 29 = .ok (.iconst 0, 1) := dk_3 (dk_at dksX1_call_1 5 rfl rfl)
theorem dX1_call_30 : decode cX1_call 30 = .ok (.istore 6, 2) := dk_54 6 (dk_at dksX1_call_1 6 rfl rfl)
theorem dX1_call_32 : decode cX1_call 32 = .ok (.iload 6, 2) := dk_21 6 (dk_at dksX1_call_1 8 rfl rfl)
theorem dX1_call_34 : decode cX1_call 34 = .ok (.aload 4, 2) := dk_25 4 (dk_at dksX1_call_1 10 rfl rfl)
theorem dX1_call_36 : decode cX1_call 36 = .ok (.invokeinterface 105 1, 5) := by decide +kernel
theorem dX1_call_41 : decode cX1_call 41 = .ok (.if_icmp .ge 95, 3) := dk_162 0 95 (dk_at dksX1_call_1 17 rfl rfl)
theorem dX1_call_44 : decode cX1_call 44 = .ok (.aload 4, 2) := dk_25 4 (dk_at dksX1_call_1 20 rfl rfl)
theorem dX1_call_46 : decode cX1_call 46 = .ok (.iload 6, 2) := dk_21 6 (dk_at dksX1_call_1 22 rfl rfl)
theorem dX1_call_48 : decode cX1_call 48 = .ok (.invokeinterface 109 2, 5) := by decide +kernel
theorem dX1_call_53 : decode cX1_call 53 = .ok (.checkcast 425, 3) := dk_192 1 169 (dk_at dksX1_call_2 5 rfl rfl)
theorem dX1_call_56 : decode cX1_call 56 = .ok (.invokevirtual 428, 3) := dk_182 1 172 (dk_at dksX1_call_2 8 rfl rfl)
theorem dX1_call_59 : decode cX1_call 59 = .ok (.iload_n 2, 1) := dk_28 (dk_at dksX1_call_2 11 rfl rfl)
theorem dX1_call_60 : decode cX1_call 60 = .ok (.ishr, 1) := dk_122 (dk_at dksX1_call_2 12 rfl rfl)
theorem dX1_call_61 : decode cX1_call 61 = .ok (.iconst 1, 1) := dk_4 (dk_at dksX1_call_2 13 rfl rfl)
theorem dX1_call_62 : decode cX1_call 62 = .ok (.iand, 1) := dk_126 (dk_at dksX1_call_2 14 rfl rfl)
theorem dX1_call_63 : decode cX1_call 63 = .ok (.iconst 1, 1) := dk_4 (dk_at dksX1_call_2 15 rfl rfl)
theorem dX1_call_64 : decode cX1_call 64 = .ok (.if_icmp .ne 7, 3) := dk_160 0 7 (dk_at dksX1_call_2 16 rfl rfl)
theorem dX1_call_67 : decode cX1_call 67 = .ok (.iconst 1, 1) := dk_4 (dk_at dksX1_call_2 19 rfl rfl)
theorem dX1_call_68 : decode cX1_call 68 = .ok (.goto 4, 3) := dk_167 0 4 (dk_at dksX1_call_2 20 rfl rfl)
theorem dX1_call_71 : decode cX1_call 71 = .ok (.iconst 0, 1) := dk_3 (dk_at dksX1_call_2 23 rfl rfl)
theorem dX1_call_72 : decode cX1_call 72 = .ok (.istore 7, 2) := dk_54 7 (dk_at dksX1_call_3 0 rfl rfl)
theorem dX1_call_74 : decode cX1_call 74 = .ok (.aload 4, 2) := dk_25 4 (dk_at dksX1_call_3 2 rfl rfl)
theorem dX1_call_76 : decode cX1_call 76 = .ok (.iload 6, 2) := dk_21 6 (dk_at dksX1_call_3 4 rfl rfl)
theorem dX1_call_78 : decode cX1_call 78 = .ok (.invokeinterface 109 2, 5) := by decide +kernel
theorem dX1_call_83 : decode cX1_call 83 = .ok (.checkcast 425, 3) := dk_192 1 169 (dk_at dksX1_call_3 11 rfl rfl)
theorem dX1_call_86 : decode cX1_call 86 = .ok (.invokevirtual 431, 3) := dk_182 1 175 (dk_at dksX1_call_3 14 rfl rfl)
theorem dX1_call_89 : decode cX1_call 89 = .ok (.iload_n 2, 1) := dk_28 (dk_at dksX1_call_3 17 rfl rfl)
theorem dX1_call_90 : decode cX1_call 90 = .ok (.ishr, 1) := dk_122 (dk_at dksX1_call_3 18 rfl rfl)
theorem dX1_call_91 : decode cX1_call 91 = .ok (.iconst 1, 1) := dk_4 (dk_at dksX1_call_3 19 rfl rfl)
theorem dX1_call_92 : decode cX1_call 92 = .ok (.iand, 1) := dk_126 (dk_at dksX1_call_3 20 rfl rfl)
theorem dX1_call_93 : decode cX1_call 93 = .ok (.iconst 1, 1) := dk_4 (dk_at dksX1_call_3 21 rfl rfl)
theorem dX1_call_94 : decode cX1_call 94 = .ok (.if_icmp .ne 7, 3) := dk_160 0 7 (dk_at dksX1_call_4 0 rfl rfl)
theorem dX1_call_97 : decode cX1_call 97 = .ok (.iconst 1, 1) := dk_4 (dk_at dksX1_call_4 3 rfl rfl)
theorem dX1_call_98 : decode cX1_call 98 = .ok (.goto 4, 3) := dk_167 0 4 (dk_at dksX1_call_4 4 rfl rfl)
theorem dX1_call_101 : decode cX1_call 101 = .ok (.iconst 0, 1) := dk_3 (dk_at dksX1_call_4 7 rfl rfl)
theorem dX1_call_102 : decode cX1_call 102 = .ok (.istore 8, 2) := dk_54 8 (dk_at dksX1_call_4 8 rfl rfl)
theorem dX1_call_104 : decode cX1_call 104 = .ok (.iload 8, 2) := dk_21 8 (dk_at dksX1_call_4 10 rfl rfl)
theorem dX1_call_106 : decode cX1_call 106 = .ok (.ifCond .eq 7, 3) := dk_153 0 7 (dk_at dksX1_call_4 12 rfl rfl)
theorem dX1_call_109 : decode cX1_call 109 = .ok (.iconst 2, 1) := dk_5 (dk_at dksX1_call_4 15 rfl rfl)
theorem dX1_call_110 : decode cX1_call 110 = .ok (.goto 13, 3) := dk_167 0 13 (dk_at dksX1_call_4 16 rfl rfl)
theorem dX1_call_113 : decode cX1_call 113 = .ok (.iload 7, 2) := dk_21 7 (dk_at dksX1_call_4 19 rfl rfl)
theorem dX1_call_115 : decode cX1_call 115 = .ok (.ifCond .eq 7, 3) := dk_153 0 7 (dk_at dksX1_call_4 21 rfl rfl)
theorem dX1_call_118 : decode cX1_call 118 = .ok (.iconst 1, 1) := dk_4 (dk_at dksX1_call_5 0 rfl rfl)
theorem dX1_call_119 : decode cX1_call 119 = .ok (.goto 4, 3) := dk_167 0 4 (dk_at dksX1_call_5 1 rfl rfl)
theorem dX1_call_122 : decode cX1_call 122 = .ok (.iconst 0, 1) := dk_3 (dk_at dksX1_call_5 4 rfl rfl)
theorem dX1_call_123 : decode cX1_call 123 = .ok (.iload 5, 2) := dk_21 5 (dk_at dksX1_call_5 5 rfl rfl)
theorem dX1_call_125 : decode cX1_call 125 = .ok (.invokestatic 354, 3) := dk_184 1 98 (dk_at dksX1_call_5 7 rfl rfl)
theorem dX1_call_128 : decode cX1_call 128 = .ok (.istore 5, 2) := dk_54 5 (dk_at dksX1_call_5 10 rfl rfl)
theorem dX1_call_130 : decode cX1_call 130 = .ok (.iinc 6 1, 3) := dk_132 6 1 (dk_at dksX1_call_5 12 rfl rfl)
theorem dX1_call_133 : decode cX1_call 133 = .ok (.goto (-101), 3) := dk_167 255 155 (dk_at dksX1_call_5 15 rfl rfl)
theorem dX1_call_136 : decode cX1_call 136 = .ok (.iload 5, 2) := dk_21 5 (dk_at dksX1_call_5 18 rfl rfl)
theorem dX1_call_138 : decode cX1_call 138 = .ok (.iconst 2, 1) := dk_5 (dk_at dksX1_call_5 20 rfl rfl)
theorem dX1_call_139 : decode cX1_call 139 = .ok (.if_icmp .ne 14, 3) := dk_160 0 14 (dk_at dksX1_call_5 21 rfl rfl)
theorem dX1_call_142 : decode cX1_call 142 = .ok (.aload_n 0, 1) := dk_42 (dk_at dksX1_call_6 0 rfl rfl)
theorem dX1_call_143 : decode cX1_call 143 = .ok (.getfield 44, 3) := dk_180 0 44 (dk_at dksX1_call_6 1 rfl rfl)
theorem dX1_call_146 : decode cX1_call 146 = .ok (.aload_n 3, 1) := dk_45 (dk_at dksX1_call_6 4 rfl rfl)
theorem dX1_call_147 : decode cX1_call 147 = .ok (.invokeinterface 270 2, 5) := by decide +kernel
theorem dX1_call_152 : decode cX1_call 152 = .ok (.pop, 1) := dk_87 (dk_at dksX1_call_6 10 rfl rfl)
theorem dX1_call_153 : decode cX1_call 153 = .ok (.iload 5, 2) := dk_21 5 (dk_at dksX1_call_6 11 rfl rfl)
theorem dX1_call_155 : decode cX1_call 155 = .ok (.ireturn, 1) := dk_172 (dk_at dksX1_call_6 13 rfl rfl)
abbrev cX1_connect : ByteArray := prog_1_method_71_code
def yX1_connect : MethodName := ⟨RX1, "connect", "(II)I"⟩
def dkwX1_connect_3 : List UInt8 := [21, 4, 172]
abbrev dktX1_connect_3 : List UInt8 := dkwX1_connect_3 ++ []
def dkwX1_connect_2 : List UInt8 := [21, 4, 16, 9, 163, 0, 7, 4, 167, 0, 4, 3, 184, 0, 136, 45, 180, 1, 178, 28, 21, 4, 79]
abbrev dktX1_connect_2 : List UInt8 := dkwX1_connect_2 ++ dktX1_connect_3
def dkwX1_connect_1 : List UInt8 := [21, 4, 182, 1, 181, 153, 0, 9, 132, 4, 1, 167, 255, 236, 45, 180, 1, 178, 28, 46, 2, 160, 0, 14]
abbrev dktX1_connect_1 : List UInt8 := dkwX1_connect_1 ++ dktX1_connect_2
def dkwX1_connect_0 : List UInt8 := [42, 27, 182, 1, 23, 78, 28, 3, 5, 184, 0, 125, 5, 54, 4, 21, 4, 16, 9, 163, 0, 19, 42, 28]
abbrev dktX1_connect_0 : List UInt8 := dkwX1_connect_0 ++ dktX1_connect_1
theorem dksX1_connect_0 : cX1_connect.data.toList.drop 0 = dktX1_connect_0 := by decide +kernel
theorem dksX1_connect_1 : cX1_connect.data.toList.drop 24 = dktX1_connect_1 := dk_seg dksX1_connect_0 24 rfl rfl
theorem dksX1_connect_2 : cX1_connect.data.toList.drop 48 = dktX1_connect_2 := dk_seg dksX1_connect_1 24 rfl rfl
theorem dksX1_connect_3 : cX1_connect.data.toList.drop 71 = dktX1_connect_3 := dk_seg dksX1_connect_2 23 rfl rfl
theorem dX1_connect_0 : decode cX1_connect 0 = .ok (.aload_n 0, 1) := dk_42 (dk_at dksX1_connect_0 0 rfl rfl)
theorem dX1_connect_1 : decode cX1_connect 1 = .ok (.iload_n 1, 1) := dk_27 (dk_at dksX1_connect_0 1 rfl rfl)
theorem dX1_connect_2 : decode cX1_connect 2 = .ok (.invokevirtual 279, 3) := dk_182 1 23 (dk_at dksX1_connect_0 2 rfl rfl)
theorem dX1_connect_5 : decode cX1_connect 5 = .ok (.astore_n 3, 1) := dk_78 (dk_at dksX1_connect_0 5 rfl rfl)
theorem dX1_connect_6 : decode cX1_connect 6 = .ok (.iload_n 2, 1) := dk_28 (dk_at dksX1_connect_0 6 rfl rfl)
theorem dX1_connect_7 : decode cX1_connect 7 = .ok (.iconst 0, 1) := dk_3 (dk_at dksX1_connect_0 7 rfl rfl)
theorem dX1_connect_8 : decode cX1_connect 8 = .ok (.iconst 2, 1) := dk_5 (dk_at dksX1_connect_0 8 rfl rfl)
theorem dX1_connect_9 : decode cX1_connect 9 = .ok (.invokestatic 125, 3) := dk_184 0 125 (dk_at dksX1_connect_0 9 rfl rfl)
theorem dX1_connect_12 : decode cX1_connect 12 = .ok (.iconst 2, 1) := dk_5 (dk_at dksX1_connect_0 12 rfl rfl)
theorem dX1_connect_13 : decode cX1_connect 13 = .ok (.istore 4, 2) := dk_54 4 (dk_at dksX1_connect_0 13 rfl rfl)
theorem dX1_connect_15 : decode cX1_connect 15 = .ok (.iload 4, 2) := dk_21 4 (dk_at dksX1_connect_0 15 rfl rfl)
theorem dX1_connect_17 : decode cX1_connect 17 = .ok (.bipush 9, 2) := dk_16 9 (dk_at dksX1_connect_0 17 rfl rfl)
theorem dX1_connect_19 : decode cX1_connect 19 = .ok (.if_icmp .gt 19, 3) := dk_163 0 19 (dk_at dksX1_connect_0 19 rfl rfl)
theorem dX1_connect_22 : decode cX1_connect 22 = .ok (.aload_n 0, 1) := dk_42 (dk_at dksX1_connect_0 22 rfl rfl)
theorem dX1_connect_23 : decode cX1_connect 23 = .ok (.iload_n 2, 1) := dk_28 (dk_at dksX1_connect_0 23 rfl rfl)
theorem dX1_connect_24 : decode cX1_connect 24 = .ok (.iload 4, 2) := dk_21 4 (dk_at dksX1_connect_1 0 rfl rfl)
theorem dX1_connect_26 : decode cX1_connect 26 = .ok (.invokevirtual 437, 3) := dk_182 1 181 (dk_at dksX1_connect_1 2 rfl rfl)
theorem dX1_connect_29 : decode cX1_connect 29 = .ok (.ifCond .eq 9, 3) := dk_153 0 9 (dk_at dksX1_connect_1 5 rfl rfl)
theorem dX1_connect_32 : decode cX1_connect 32 = .ok (.iinc 4 1, 3) := dk_132 4 1 (dk_at dksX1_connect_1 8 rfl rfl)
theorem dX1_connect_35 : decode cX1_connect 35 = .ok (.goto (-20), 3) := dk_167 255 236 (dk_at dksX1_connect_1 11 rfl rfl)
theorem dX1_connect_38 : decode cX1_connect 38 = .ok (.aload_n 3, 1) := dk_45 (dk_at dksX1_connect_1 14 rfl rfl)
theorem dX1_connect_39 : decode cX1_connect 39 = .ok (.getfield 434, 3) := dk_180 1 178 (dk_at dksX1_connect_1 15 rfl rfl)
theorem dX1_connect_42 : decode cX1_connect 42 = .ok (.iload_n 2, 1) := dk_28 (dk_at dksX1_connect_1 18 rfl rfl)
theorem dX1_connect_43 : decode cX1_connect 43 = .ok (.iaload, 1) := dk_46 (dk_at dksX1_connect_1 19 rfl rfl)
theorem dX1_connect_44 : decode cX1_connect 44 = .ok (.iconst (-1), 1) := dk_2 (dk_at dksX1_connect_1 20 rfl rfl)
theorem dX1_connect_45 : decode cX1_connect 45 = .ok (.if_icmp .ne 14, 3) := dk_160 0 14 (dk_at dksX1_connect_1 21 rfl rfl)
theorem dX1_connect_48 : decode cX1_connect 48 = .ok (.iload 4, 2) := dk_21 4 (dk_at dksX1_connect_2 0 rfl rfl)
theorem dX1_connect_50 : decode cX1_connect 50 = .ok (.bipush 9, 2) := dk_16 9 (dk_at dksX1_connect_2 2 rfl rfl)
theorem dX1_connect_52 : decode cX1_connect 52 = .ok (.if_icmp .gt 7, 3) := dk_163 0 7 (dk_at dksX1_connect_2 4 rfl rfl)
theorem dX1_connect_55 : decode cX1_connect 55 = .ok (.iconst 1, 1) := dk_4 (dk_at dksX1_connect_2 7 rfl rfl)
theorem dX1_connect_56 : decode cX1_connect 56 = .ok (.goto 4, 3) := dk_167 0 4 (dk_at dksX1_connect_2 8 rfl rfl)
theorem dX1_connect_59 : decode cX1_connect 59 = .ok (.iconst 0, 1) := dk_3 (dk_at dksX1_connect_2 11 rfl rfl)
theorem dX1_connect_60 : decode cX1_connect 60 = .ok (.invokestatic 136, 3) := dk_184 0 136 (dk_at dksX1_connect_2 12 rfl rfl)
theorem dX1_connect_63 : decode cX1_connect 63 = .ok (.aload_n 3, 1) := dk_45 (dk_at dksX1_connect_2 15 rfl rfl)
theorem dX1_connect_64 : decode cX1_connect 64 = .ok (.getfield 434, 3) := dk_180 1 178 (dk_at dksX1_connect_2 16 rfl rfl)
theorem dX1_connect_67 : decode cX1_connect 67 = .ok (.iload_n 2, 1) := dk_28 (dk_at dksX1_connect_2 19 rfl rfl)
theorem dX1_connect_68 : decode cX1_connect 68 = .ok (.iload 4, 2) := dk_21 4 (dk_at dksX1_connect_2 20 rfl rfl)
theorem dX1_connect_70 : decode cX1_connect 70 = .ok (.iastore, 1) := dk_79 (dk_at dksX1_connect_2 22 rfl rfl)
theorem dX1_connect_71 : decode cX1_connect 71 = .ok (.iload 4, 2) := dk_21 4 (dk_at dksX1_connect_3 0 rfl rfl)
theorem dX1_connect_73 : decode cX1_connect 73 = .ok (.ireturn, 1) := dk_172 (dk_at dksX1_connect_3 2 rfl rfl)
abbrev cX1_isTaken : ByteArray := prog_1_method_70_code
def yX1_isTaken : MethodName := ⟨RX1, "isTaken", "(II)Z"⟩
def dkwX1_isTaken_2 : List UInt8 := [128, 62, 132, 4, 1, 167, 255, 208, 29, 172]
abbrev dktX1_isTaken_2 : List UInt8 := dkwX1_isTaken_2 ++ []
def dkwX1_isTaken_1 : List UInt8 := [21, 4, 185, 0, 109, 2, 0, 192, 0, 113, 180, 1, 178, 27, 46, 28, 160, 0, 7, 4, 167, 0, 4, 3]
abbrev dktX1_isTaken_1 : List UInt8 := dkwX1_isTaken_1 ++ dktX1_isTaken_2
def dkwX1_isTaken_0 : List UInt8 := [3, 62, 3, 54, 4, 21, 4, 42, 180, 0, 30, 185, 0, 105, 1, 0, 162, 0, 40, 29, 42, 180, 0, 30]
abbrev dktX1_isTaken_0 : List UInt8 := dkwX1_isTaken_0 ++ dktX1_isTaken_1
theorem dksX1_isTaken_0 : cX1_isTaken.data.toList.drop 0 = dktX1_isTaken_0 := by decide +kernel
theorem dksX1_isTaken_1 : cX1_isTaken.data.toList.drop 24 = dktX1_isTaken_1 := dk_seg dksX1_isTaken_0 24 rfl rfl
theorem dksX1_isTaken_2 : cX1_isTaken.data.toList.drop 48 = dktX1_isTaken_2 := dk_seg dksX1_isTaken_1 24 rfl rfl
theorem dX1_isTaken_0 : decode cX1_isTaken 0 = .ok (.iconst 0, 1) := dk_3 (dk_at dksX1_isTaken_0 0 rfl rfl)
theorem dX1_isTaken_1 : decode cX1_isTaken 1 = .ok (.istore_n 3, 1) := dk_62 (dk_at dksX1_isTaken_0 1 rfl rfl)
theorem dX1_isTaken_2 : decode cX1_isTaken 2 = .ok (.iconst 0, 1) := dk_3 (dk_at dksX1_isTaken_0 2 rfl rfl)
theorem dX1_isTaken_3 : decode cX1_isTaken 3 = .ok (.istore 4, 2) := dk_54 4 (dk_at dksX1_isTaken_0 3 rfl rfl)
theorem dX1_isTaken_5 : decode cX1_isTaken 5 = .ok (.iload 4, 2) := dk_21 4 (dk_at dksX1_isTaken_0 5 rfl rfl)
theorem dX1_isTaken_7 : decode cX1_isTaken 7 = .ok (.aload_n 0, 1) := dk_42 (dk_at dksX1_isTaken_0 7 rfl rfl)
theorem dX1_isTaken_8 : decode cX1_isTaken 8 = .ok (.getfield 30, 3) := dk_180 0 30 (dk_at dksX1_isTaken_0 8 rfl rfl)
theorem dX1_isTaken_11 : decode cX1_isTaken 11 = .ok (.invokeinterface 105 1, 5) := by decide +kernel
theorem dX1_isTaken_16 : decode cX1_isTaken 16 = .ok (.if_icmp .ge 40, 3) := dk_162 0 40 (dk_at dksX1_isTaken_0 16 rfl rfl)
theorem dX1_isTaken_19 : decode cX1_isTaken 19 = .ok (.iload_n 3, 1) := dk_29 (dk_at dksX1_isTaken_0 19 rfl rfl)
theorem dX1_isTaken_20 : decode cX1_isTaken 20 = .ok (.aload_n 0, 1) := dk_42 (dk_at dksX1_isTaken_0 20 rfl rfl)
theorem dX1_isTaken_21 : decode cX1_isTaken 21 = .ok (.getfield 30, 3) := dk_180 0 30 (dk_at dksX1_isTaken_0 21 rfl rfl)
theorem dX1_isTaken_24 : decode cX1_isTaken 24 = .ok (.iload 4, 2) := dk_21 4 (dk_at dksX1_isTaken_1 0 rfl rfl)
theorem dX1_isTaken_26 : decode cX1_isTaken 26 = .ok (.invokeinterface 109 2, 5) := by decide +kernel
theorem dX1_isTaken_31 : decode cX1_isTaken 31 = .ok (.checkcast 113, 3) := dk_192 0 113 (dk_at dksX1_isTaken_1 7 rfl rfl)
theorem dX1_isTaken_34 : decode cX1_isTaken 34 = .ok (.getfield 434, 3) := dk_180 1 178 (dk_at dksX1_isTaken_1 10 rfl rfl)
theorem dX1_isTaken_37 : decode cX1_isTaken 37 = .ok (.iload_n 1, 1) := dk_27 (dk_at dksX1_isTaken_1 13 rfl rfl)
theorem dX1_isTaken_38 : decode cX1_isTaken 38 = .ok (.iaload, 1) := dk_46 (dk_at dksX1_isTaken_1 14 rfl rfl)
theorem dX1_isTaken_39 : decode cX1_isTaken 39 = .ok (.iload_n 2, 1) := dk_28 (dk_at dksX1_isTaken_1 15 rfl rfl)
theorem dX1_isTaken_40 : decode cX1_isTaken 40 = .ok (.if_icmp .ne 7, 3) := dk_160 0 7 (dk_at dksX1_isTaken_1 16 rfl rfl)
theorem dX1_isTaken_43 : decode cX1_isTaken 43 = .ok (.iconst 1, 1) := dk_4 (dk_at dksX1_isTaken_1 19 rfl rfl)
theorem dX1_isTaken_44 : decode cX1_isTaken 44 = .ok (.goto 4, 3) := dk_167 0 4 (dk_at dksX1_isTaken_1 20 rfl rfl)
theorem dX1_isTaken_47 : decode cX1_isTaken 47 = .ok (.iconst 0, 1) := dk_3 (dk_at dksX1_isTaken_1 23 rfl rfl)
theorem dX1_isTaken_48 : decode cX1_isTaken 48 = .ok (.ior, 1) := dk_128 (dk_at dksX1_isTaken_2 0 rfl rfl)
theorem dX1_isTaken_49 : decode cX1_isTaken 49 = .ok (.istore_n 3, 1) := dk_62 (dk_at dksX1_isTaken_2 1 rfl rfl)
theorem dX1_isTaken_50 : decode cX1_isTaken 50 = .ok (.iinc 4 1, 3) := dk_132 4 1 (dk_at dksX1_isTaken_2 2 rfl rfl)
theorem dX1_isTaken_53 : decode cX1_isTaken 53 = .ok (.goto (-48), 3) := dk_167 255 208 (dk_at dksX1_isTaken_2 5 rfl rfl)
theorem dX1_isTaken_56 : decode cX1_isTaken 56 = .ok (.iload_n 3, 1) := dk_29 (dk_at dksX1_isTaken_2 8 rfl rfl)
theorem dX1_isTaken_57 : decode cX1_isTaken 57 = .ok (.ireturn, 1) := dk_172 (dk_at dksX1_isTaken_2 9 rfl rfl)
abbrev cX1_disconnect : ByteArray := prog_1_method_72_code
def yX1_disconnect : MethodName := ⟨RX1, "disconnect", "(II)I"⟩
def dkwX1_disconnect_1 : List UInt8 := [159, 0, 7, 4, 167, 0, 4, 3, 184, 0, 136, 45, 180, 1, 178, 28, 2, 79, 21, 4, 172]
abbrev dktX1_disconnect_1 : List UInt8 := dkwX1_disconnect_1 ++ []
def dkwX1_disconnect_0 : List UInt8 := [42, 27, 182, 1, 23, 78, 28, 3, 5, 184, 0, 125, 45, 180, 1, 178, 28, 46, 54, 4, 21, 4, 2]
abbrev dktX1_disconnect_0 : List UInt8 := dkwX1_disconnect_0 ++ dktX1_disconnect_1
theorem dksX1_disconnect_0 : cX1_disconnect.data.toList.drop 0 = dktX1_disconnect_0 := by decide +kernel
theorem dksX1_disconnect_1 : cX1_disconnect.data.toList.drop 23 = dktX1_disconnect_1 := dk_seg dksX1_disconnect_0 23 rfl rfl
theorem dX1_disconnect_0 : decode cX1_disconnect 0 = .ok (.aload_n 0, 1) := dk_42 (dk_at dksX1_disconnect_0 0 rfl rfl)
theorem dX1_disconnect_1 : decode cX1_disconnect 1 = .ok (.iload_n 1, 1) := dk_27 (dk_at dksX1_disconnect_0 1 rfl rfl)
theorem dX1_disconnect_2 : decode cX1_disconnect 2 = .ok (.invokevirtual 279, 3) := dk_182 1 23 (dk_at dksX1_disconnect_0 2 rfl rfl)
theorem dX1_disconnect_5 : decode cX1_disconnect 5 = .ok (.astore_n 3, 1) := dk_78 (dk_at dksX1_disconnect_0 5 rfl rfl)
theorem dX1_disconnect_6 : decode cX1_disconnect 6 = .ok (.iload_n 2, 1) := dk_28 (dk_at dksX1_disconnect_0 6 rfl rfl)
theorem dX1_disconnect_7 : decode cX1_disconnect 7 = .ok (.iconst 0, 1) := dk_3 (dk_at dksX1_disconnect_0 7 rfl rfl)
theorem dX1_disconnect_8 : decode cX1_disconnect 8 = .ok (.iconst 2, 1) := dk_5 (dk_at dksX1_disconnect_0 8 rfl rfl)
theorem dX1_disconnect_9 : decode cX1_disconnect 9 = .ok (.invokestatic 125, 3) := dk_184 0 125 (dk_at dksX1_disconnect_0 9 rfl rfl)
theorem dX1_disconnect_12 : decode cX1_disconnect 12 = .ok (.aload_n 3, 1) := dk_45 (dk_at dksX1_disconnect_0 12 rfl rfl)
theorem dX1_disconnect_13 : decode cX1_disconnect 13 = .ok (.getfield 434, 3) := dk_180 1 178 (dk_at dksX1_disconnect_0 13 rfl rfl)
theorem dX1_disconnect_16 : decode cX1_disconnect 16 = .ok (.iload_n 2, 1) := dk_28 (dk_at dksX1_disconnect_0 16 rfl rfl)
theorem dX1_disconnect_17 : decode cX1_disconnect 17 = .ok (.iaload, 1) := dk_46 (dk_at dksX1_disconnect_0 17 rfl rfl)
theorem dX1_disconnect_18 : decode cX1_disconnect 18 = .ok (.istore 4, 2) := dk_54 4 (dk_at dksX1_disconnect_0 18 rfl rfl)
theorem dX1_disconnect_20 : decode cX1_disconnect 20 = .ok (.iload 4, 2) := dk_21 4 (dk_at dksX1_disconnect_0 20 rfl rfl)
theorem dX1_disconnect_22 : decode cX1_disconnect 22 = .ok (.iconst (-1), 1) := dk_2 (dk_at dksX1_disconnect_0 22 rfl rfl)
theorem dX1_disconnect_23 : decode cX1_disconnect 23 = .ok (.if_icmp .eq 7, 3) := dk_159 0 7 (dk_at dksX1_disconnect_1 0 rfl rfl)
theorem dX1_disconnect_26 : decode cX1_disconnect 26 = .ok (.iconst 1, 1) := dk_4 (dk_at dksX1_disconnect_1 3 rfl rfl)
theorem dX1_disconnect_27 : decode cX1_disconnect 27 = .ok (.goto 4, 3) := dk_167 0 4 (dk_at dksX1_disconnect_1 4 rfl rfl)
theorem dX1_disconnect_30 : decode cX1_disconnect 30 = .ok (.iconst 0, 1) := dk_3 (dk_at dksX1_disconnect_1 7 rfl rfl)
theorem dX1_disconnect_31 : decode cX1_disconnect 31 = .ok (.invokestatic 136, 3) := dk_184 0 136 (dk_at dksX1_disconnect_1 8 rfl rfl)
theorem dX1_disconnect_34 : decode cX1_disconnect 34 = .ok (.aload_n 3, 1) := dk_45 (dk_at dksX1_disconnect_1 11 rfl rfl)
theorem dX1_disconnect_35 : decode cX1_disconnect 35 = .ok (.getfield 434, 3) := dk_180 1 178 (dk_at dksX1_disconnect_1 12 rfl rfl)
theorem dX1_disconnect_38 : decode cX1_disconnect 38 = .ok (.iload_n 2, 1) := dk_28 (dk_at dksX1_disconnect_1 15 rfl rfl)
theorem dX1_disconnect_39 : decode cX1_disconnect 39 = .ok (.iconst (-1), 1) := dk_2 (dk_at dksX1_disconnect_1 16 rfl rfl)
theorem dX1_disconnect_40 : decode cX1_disconnect 40 = .ok (.iastore, 1) := dk_79 (dk_at dksX1_disconnect_1 17 rfl rfl)
theorem dX1_disconnect_41 : decode cX1_disconnect 41 = .ok (.iload 4, 2) := dk_21 4 (dk_at dksX1_disconnect_1 18 rfl rfl)
theorem dX1_disconnect_43 : decode cX1_disconnect 43 = .ok (.ireturn, 1) := dk_172 (dk_at dksX1_disconnect_1 20 rfl rfl)
abbrev cX1_find : ByteArray := prog_1_method_73_code
def yX1_find : MethodName := ⟨RX1, "find", "(II)I"⟩
def dkwX1_find_5 : List UInt8 := [167, 255, 155, 2, 172]
abbrev dktX1_find_5 : List UInt8 := dkwX1_find_5 ++ []
def dkwX1_find_4 : List UInt8 := [16, 10, 21, 4, 104, 25, 6, 180, 1, 178, 21, 4, 46, 96, 172, 132, 5, 1, 167, 255, 170, 132, 4, 1]
abbrev dktX1_find_4 : List UInt8 := dkwX1_find_4 ++ dktX1_find_5
def dkwX1_find_3 : List UInt8 := [165, 0, 39, 25, 6, 180, 1, 33, 28, 160, 0, 30, 25, 6, 180, 1, 178, 21, 4, 46, 2, 159, 0, 18]
abbrev dktX1_find_3 : List UInt8 := dkwX1_find_3 ++ dktX1_find_4
def dkwX1_find_2 : List UInt8 := [159, 0, 67, 42, 180, 0, 30, 21, 5, 185, 0, 109, 2, 0, 192, 0, 113, 58, 6, 25, 6, 45]
abbrev dktX1_find_2 : List UInt8 := dkwX1_find_2 ++ dktX1_find_3
def dkwX1_find_1 : List UInt8 := [54, 5, 21, 5, 42, 180, 0, 30, 185, 0, 105, 1, 0, 162, 0, 78, 45, 180, 1, 178, 21, 4, 46, 2]
abbrev dktX1_find_1 : List UInt8 := dkwX1_find_1 ++ dktX1_find_2
def dkwX1_find_0 : List UInt8 := [42, 27, 182, 1, 23, 78, 28, 3, 16, 9, 184, 0, 125, 3, 54, 4, 21, 4, 6, 162, 0, 101, 3]
abbrev dktX1_find_0 : List UInt8 := dkwX1_find_0 ++ dktX1_find_1
theorem dksX1_find_0 : cX1_find.data.toList.drop 0 = dktX1_find_0 := by decide +kernel
theorem dksX1_find_1 : cX1_find.data.toList.drop 23 = dktX1_find_1 := dk_seg dksX1_find_0 23 rfl rfl
theorem dksX1_find_2 : cX1_find.data.toList.drop 47 = dktX1_find_2 := dk_seg dksX1_find_1 24 rfl rfl
theorem dksX1_find_3 : cX1_find.data.toList.drop 69 = dktX1_find_3 := dk_seg dksX1_find_2 22 rfl rfl
theorem dksX1_find_4 : cX1_find.data.toList.drop 93 = dktX1_find_4 := dk_seg dksX1_find_3 24 rfl rfl
theorem dksX1_find_5 : cX1_find.data.toList.drop 117 = dktX1_find_5 := dk_seg dksX1_find_4 24 rfl rfl
theorem dX1_find_0 : decode cX1_find 0 = .ok (.aload_n 0, 1) := dk_42 (dk_at dksX1_find_0 0 rfl rfl)
theorem dX1_find_1 : decode cX1_find 1 = .ok (.iload_n 1, 1) := dk_27 (dk_at dksX1_find_0 1 rfl rfl)
theorem dX1_find_2 : decode cX1_find 2 = .ok (.invokevirtual 279, 3) := dk_182 1 23 (dk_at dksX1_find_0 2 rfl rfl)
theorem dX1_find_5 : decode cX1_find 5 = .ok (.astore_n 3, 1) := dk_78 (dk_at dksX1_find_0 5 rfl rfl)
theorem dX1_find_6 : decode cX1_find 6 = .ok (.iload_n 2, 1) := dk_28 (dk_at dksX1_find_0 6 rfl rfl)
theorem dX1_find_7 : decode cX1_find 7 = .ok (.iconst 0, 1) := dk_3 (dk_at dksX1_find_0 7 rfl rfl)
theorem dX1_find_8 : decode cX1_find 8 = .ok (.bipush 9, 2) := dk_16 9 (dk_at dksX1_find_0 8 rfl rfl)
theorem dX1_find_10 : decode cX1_find 10 = .ok (.invokestatic 125, 3) := dk_184 0 125 (dk_at dksX1_find_0 10 rfl rfl)
theorem dX1_find_13 : decode cX1_find 13 = .ok (.iconst 0, 1) := dk_3 (dk_at dksX1_find_0 13 rfl rfl)
theorem dX1_find_14 : decode cX1_find 14 = .ok (.istore 4, 2) := dk_54 4 (dk_at dksX1_find_0 14 rfl rfl)
theorem dX1_find_16 : decode cX1_find 16 = .ok (.iload 4, 2) := dk_21 4 (dk_at dksX1_find_0 16 rfl rfl)
theorem dX1_find_18 : decode cX1_find 18 = .ok (.iconst 3, 1) := dk_6 (dk_at dksX1_find_0 18 rfl rfl)
theorem dX1_find_19 : decode cX1_find 19 = .ok (.if_icmp .ge 101, 3) := dk_162 0 101 (dk_at dksX1_find_0 19 rfl rfl)
theorem dX1_find_22 : decode cX1_find 22 = .ok (.iconst 0, 1) := dk_3 (dk_at dksX1_find_0 22 rfl rfl)
theorem dX1_find_23 : decode cX1_find 23 = .ok (.istore 5, 2) := dk_54 5 (dk_at dksX1_find_1 0 rfl rfl)
theorem dX1_find_25 : decode cX1_find 25 = .ok (.iload 5, 2) := dk_21 5 (dk_at dksX1_find_1 2 rfl rfl)
theorem dX1_find_27 : decode cX1_find 27 = .ok (.aload_n 0, 1) := dk_42 (dk_at dksX1_find_1 4 rfl rfl)
theorem dX1_find_28 : decode cX1_find 28 = .ok (.getfield 30, 3) := dk_180 0 30 (dk_at dksX1_find_1 5 rfl rfl)
theorem dX1_find_31 : decode cX1_find 31 = .ok (.invokeinterface 105 1, 5) := by decide +kernel
theorem dX1_find_36 : decode cX1_find 36 = .ok (.if_icmp .ge 78, 3) := dk_162 0 78 (dk_at dksX1_find_1 13 rfl rfl)
theorem dX1_find_39 : decode cX1_find 39 = .ok (.aload_n 3, 1) := dk_45 (dk_at dksX1_find_1 16 rfl rfl)
theorem dX1_find_40 : decode cX1_find 40 = .ok (.getfield 434, 3) := dk_180 1 178 (dk_at dksX1_find_1 17 rfl rfl)
theorem dX1_find_43 : decode cX1_find 43 = .ok (.iload 4, 2) := dk_21 4 (dk_at dksX1_find_1 20 rfl rfl)
theorem dX1_find_45 : decode cX1_find 45 = .ok (.iaload, 1) := dk_46 (dk_at dksX1_find_1 22 rfl rfl)
theorem dX1_find_46 : decode cX1_find 46 = .ok (.iconst (-1), 1) := dk_2 (dk_at dksX1_find_1 23 rfl rfl)
theorem dX1_find_47 : decode cX1_find 47 = .ok (.if_icmp .eq 67, 3) := dk_159 0 67 (dk_at dksX1_find_2 0 rfl rfl)
theorem dX1_find_50 : decode cX1_find 50 = .ok (.aload_n 0, 1) := dk_42 (dk_at dksX1_find_2 3 rfl rfl)
theorem dX1_find_51 : decode cX1_find 51 = .ok (.getfield 30, 3) := dk_180 0 30 (dk_at dksX1_find_2 4 rfl rfl)
theorem dX1_find_54 : decode cX1_find 54 = .ok (.iload 5, 2) := dk_21 5 (dk_at dksX1_find_2 7 rfl rfl)
theorem dX1_find_56 : decode cX1_find 56 = .ok (.invokeinterface 109 2, 5) := by decide +kernel
theorem dX1_find_61 : decode cX1_find 61 = .ok (.checkcast 113, 3) := dk_192 0 113 (dk_at dksX1_find_2 14 rfl rfl)
theorem dX1_find_64 : decode cX1_find 64 = .ok (.astore 6, 2) := dk_58 6 (dk_at dksX1_find_2 17 rfl rfl)
theorem dX1_find_66 : decode cX1_find 66 = .ok (.aload 6, 2) := dk_25 6 (dk_at dksX1_find_2 19 rfl rfl)
theorem dX1_find_68 : decode cX1_find 68 = .ok (.aload_n 3, 1) := dk_45 (dk_at dksX1_find_2 21 rfl rfl)
theorem dX1_find_69 : decode cX1_find 69 = .ok (.if_acmp .eq 39, 3) := dk_165 0 39 (dk_at dksX1_find_3 0 rfl rfl)
theorem dX1_find_72 : decode cX1_find 72 = .ok (.aload 6, 2) := dk_25 6 (dk_at dksX1_find_3 3 rfl rfl)
theorem dX1_find_74 : decode cX1_find 74 = .ok (.getfield 289, 3) := dk_180 1 33 (dk_at dksX1_find_3 5 rfl rfl)
theorem dX1_find_77 : decode cX1_find 77 = .ok (.iload_n 2, 1) := dk_28 (dk_at dksX1_find_3 8 rfl rfl)
theorem dX1_find_78 : decode cX1_find 78 = .ok (.if_icmp .ne 30, 3) := dk_160 0 30 (dk_at dksX1_find_3 9 rfl rfl)
theorem dX1_find_81 : decode cX1_find 81 = .ok (.aload 6, 2) := dk_25 6 (dk_at dksX1_find_3 12 rfl rfl)
theorem dX1_find_83 : decode cX1_find 83 = .ok (.getfield 434, 3) := dk_180 1 178 (dk_at dksX1_find_3 14 rfl rfl)
theorem dX1_find_86 : decode cX1_find 86 = .ok (.iload 4, 2) := dk_21 4 (dk_at dksX1_find_3 17 rfl rfl)
theorem dX1_find_88 : decode cX1_find 88 = .ok (.iaload, 1) := dk_46 (dk_at dksX1_find_3 19 rfl rfl)
theorem dX1_find_89 : decode cX1_find 89 = .ok (.iconst (-1), 1) := dk_2 (dk_at dksX1_find_3 20 rfl rfl)
theorem dX1_find_90 : decode cX1_find 90 = .ok (.if_icmp .eq 18, 3) := dk_159 0 18 (dk_at dksX1_find_3 21 rfl rfl)
theorem dX1_find_93 : decode cX1_find 93 = .ok (.bipush 10, 2) := dk_16 10 (dk_at dksX1_find_4 0 rfl rfl)
theorem dX1_find_95 : decode cX1_find 95 = .ok (.iload 4, 2) := dk_21 4 (dk_at dksX1_find_4 2 rfl rfl)
theorem dX1_find_97 : decode cX1_find 97 = .ok (.imul, 1) := dk_104 (dk_at dksX1_find_4 4 rfl rfl)
theorem dX1_find_98 : decode cX1_find 98 = .ok (.aload 6, 2) := dk_25 6 (dk_at dksX1_find_4 5 rfl rfl)
theorem dX1_find_100 : decode cX1_find 100 = .ok (.getfield 434, 3) := dk_180 1 178 (dk_at dksX1_find_4 7 rfl rfl)
theorem dX1_find_103 : decode cX1_find 103 = .ok (.iload 4, 2) := dk_21 4 (dk_at dksX1_find_4 10 rfl rfl)
theorem dX1_find_105 : decode cX1_find 105 = .ok (.iaload, 1) := dk_46 (dk_at dksX1_find_4 12 rfl rfl)
theorem dX1_find_106 : decode cX1_find 106 = .ok (.iadd, 1) := dk_96 (dk_at dksX1_find_4 13 rfl rfl)
theorem dX1_find_107 : decode cX1_find 107 = .ok (.ireturn, 1) := dk_172 (dk_at dksX1_find_4 14 rfl rfl)
theorem dX1_find_108 : decode cX1_find 108 = .ok (.iinc 5 1, 3) := dk_132 5 1 (dk_at dksX1_find_4 15 rfl rfl)
theorem dX1_find_111 : decode cX1_find 111 = .ok (.goto (-86), 3) := dk_167 255 170 (dk_at dksX1_find_4 18 rfl rfl)
theorem dX1_find_114 : decode cX1_find 114 = .ok (.iinc 4 1, 3) := dk_132 4 1 (dk_at dksX1_find_4 21 rfl rfl)
theorem dX1_find_117 : decode cX1_find 117 = .ok (.goto (-101), 3) := dk_167 255 155 (dk_at dksX1_find_5 0 rfl rfl)
theorem dX1_find_120 : decode cX1_find 120 = .ok (.iconst (-1), 1) := dk_2 (dk_at dksX1_find_5 3 rfl rfl)
theorem dX1_find_121 : decode cX1_find 121 = .ok (.ireturn, 1) := dk_172 (dk_at dksX1_find_5 4 rfl rfl)
abbrev cX1_forward : ByteArray := prog_1_method_74_code
def yX1_forward : MethodName := ⟨RX1, "forward", "(III)V"⟩
def dkwX1_forward_2 : List UInt8 := [42, 180, 0, 49, 27, 187, 0, 47, 89, 28, 29, 183, 1, 188, 83, 177]
abbrev dktX1_forward_2 : List UInt8 := dkwX1_forward_2 ++ []
def dkwX1_forward_1 : List UInt8 := [180, 0, 49, 27, 50, 199, 0, 15, 25, 4, 182, 1, 184, 153, 0, 7, 4, 167, 0, 4, 3, 184, 0, 136]
abbrev dktX1_forward_1 : List UInt8 := dkwX1_forward_1 ++ dktX1_forward_2
def dkwX1_forward_0 : List UInt8 := [42, 28, 182, 1, 23, 58, 4, 27, 3, 16, 99, 184, 0, 125, 29, 3, 16, 99, 184, 0, 125, 42]
abbrev dktX1_forward_0 : List UInt8 := dkwX1_forward_0 ++ dktX1_forward_1
theorem dksX1_forward_0 : cX1_forward.data.toList.drop 0 = dktX1_forward_0 := by decide +kernel
theorem dksX1_forward_1 : cX1_forward.data.toList.drop 22 = dktX1_forward_1 := dk_seg dksX1_forward_0 22 rfl rfl
theorem dksX1_forward_2 : cX1_forward.data.toList.drop 46 = dktX1_forward_2 := dk_seg dksX1_forward_1 24 rfl rfl
theorem dX1_forward_0 : decode cX1_forward 0 = .ok (.aload_n 0, 1) := dk_42 (dk_at dksX1_forward_0 0 rfl rfl)
theorem dX1_forward_1 : decode cX1_forward 1 = .ok (.iload_n 2, 1) := dk_28 (dk_at dksX1_forward_0 1 rfl rfl)
theorem dX1_forward_2 : decode cX1_forward 2 = .ok (.invokevirtual 279, 3) := dk_182 1 23 (dk_at dksX1_forward_0 2 rfl rfl)
theorem dX1_forward_5 : decode cX1_forward 5 = .ok (.astore 4, 2) := dk_58 4 (dk_at dksX1_forward_0 5 rfl rfl)
theorem dX1_forward_7 : decode cX1_forward 7 = .ok (.iload_n 1, 1) := dk_27 (dk_at dksX1_forward_0 7 rfl rfl)
theorem dX1_forward_8 : decode cX1_forward 8 = .ok (.iconst 0, 1) := dk_3 (dk_at dksX1_forward_0 8 rfl rfl)
theorem dX1_forward_9 : decode cX1_forward 9 = .ok (.bipush 99, 2) := dk_16 99 (dk_at dksX1_forward_0 9 rfl rfl)
theorem dX1_forward_11 : decode cX1_forward 11 = .ok (.invokestatic 125, 3) := dk_184 0 125 (dk_at dksX1_forward_0 11 rfl rfl)
theorem dX1_forward_14 : decode cX1_forward 14 = .ok (.iload_n 3, 1) := dk_29 (dk_at dksX1_forward_0 14 rfl rfl)
theorem dX1_forward_15 : decode cX1_forward 15 = .ok (.iconst 0, 1) := dk_3 (dk_at dksX1_forward_0 15 rfl rfl)
theorem dX1_forward_16 : decode cX1_forward 16 = .ok (.bipush 99, 2) := dk_16 99 (dk_at dksX1_forward_0 16 rfl rfl)
theorem dX1_forward_18 : decode cX1_forward 18 = .ok (.invokestatic 125, 3) := dk_184 0 125 (dk_at dksX1_forward_0 18 rfl rfl)
theorem dX1_forward_21 : decode cX1_forward 21 = .ok (.aload_n 0, 1) := dk_42 (dk_at dksX1_forward_0 21 rfl rfl)
theorem dX1_forward_22 : decode cX1_forward 22 = .ok (.getfield 49, 3) := dk_180 0 49 (dk_at dksX1_forward_1 0 rfl rfl)
theorem dX1_forward_25 : decode cX1_forward 25 = .ok (.iload_n 1, 1) := dk_27 (dk_at dksX1_forward_1 3 rfl rfl)
theorem dX1_forward_26 : decode cX1_forward 26 = .ok (.aaload, 1) := dk_50 (dk_at dksX1_forward_1 4 rfl rfl)
theorem dX1_forward_27 : decode cX1_forward 27 = .ok (.ifnonnull 15, 3) := dk_199 0 15 (dk_at dksX1_forward_1 5 rfl rfl)
theorem dX1_forward_30 : decode cX1_forward 30 = .ok (.aload 4, 2) := dk_25 4 (dk_at dksX1_forward_1 8 rfl rfl)
theorem dX1_forward_32 : decode cX1_forward 32 = .ok (.invokevirtual 440, 3) := dk_182 1 184 (dk_at dksX1_forward_1 10 rfl rfl)
theorem dX1_forward_35 : decode cX1_forward 35 = .ok (.ifCond .eq 7, 3) := dk_153 0 7 (dk_at dksX1_forward_1 13 rfl rfl)
theorem dX1_forward_38 : decode cX1_forward 38 = .ok (.iconst 1, 1) := dk_4 (dk_at dksX1_forward_1 16 rfl rfl)
theorem dX1_forward_39 : decode cX1_forward 39 = .ok (.goto 4, 3) := dk_167 0 4 (dk_at dksX1_forward_1 17 rfl rfl)
theorem dX1_forward_42 : decode cX1_forward 42 = .ok (.iconst 0, 1) := dk_3 (dk_at dksX1_forward_1 20 rfl rfl)
theorem dX1_forward_43 : decode cX1_forward 43 = .ok (.invokestatic 136, 3) := dk_184 0 136 (dk_at dksX1_forward_1 21 rfl rfl)
theorem dX1_forward_46 : decode cX1_forward 46 = .ok (.aload_n 0, 1) := dk_42 (dk_at dksX1_forward_2 0 rfl rfl)
theorem dX1_forward_47 : decode cX1_forward 47 = .ok (.getfield 49, 3) := dk_180 0 49 (dk_at dksX1_forward_2 1 rfl rfl)
theorem dX1_forward_50 : decode cX1_forward 50 = .ok (.iload_n 1, 1) := dk_27 (dk_at dksX1_forward_2 4 rfl rfl)
theorem dX1_forward_51 : decode cX1_forward 51 = .ok (.new 47, 3) := dk_187 0 47 (dk_at dksX1_forward_2 5 rfl rfl)
theorem dX1_forward_54 : decode cX1_forward 54 = .ok (.dup, 1) := dk_89 (dk_at dksX1_forward_2 8 rfl rfl)
theorem dX1_forward_55 : decode cX1_forward 55 = .ok (.iload_n 2, 1) := dk_28 (dk_at dksX1_forward_2 9 rfl rfl)
theorem dX1_forward_56 : decode cX1_forward 56 = .ok (.iload_n 3, 1) := dk_29 (dk_at dksX1_forward_2 10 rfl rfl)
theorem dX1_forward_57 : decode cX1_forward 57 = .ok (.invokespecial 444, 3) := dk_183 1 188 (dk_at dksX1_forward_2 11 rfl rfl)
theorem dX1_forward_60 : decode cX1_forward 60 = .ok (.aastore, 1) := dk_83 (dk_at dksX1_forward_2 14 rfl rfl)
theorem dX1_forward_61 : decode cX1_forward 61 = .ok (.return_, 1) := dk_177 (dk_at dksX1_forward_2 15 rfl rfl)
abbrev cX1_leads : ByteArray := prog_1_method_75_code
def yX1_leads : MethodName := ⟨RX1, "leads", "(I)I"⟩
def dkwX1_leads_2 : List UInt8 := [96, 172]
abbrev dktX1_leads_2 : List UInt8 := dkwX1_leads_2 ++ []
def dkwX1_leads_1 : List UInt8 := [182, 1, 23, 182, 1, 184, 154, 0, 7, 2, 167, 0, 15, 16, 100, 44, 180, 1, 22, 104, 44, 180, 1, 189]
abbrev dktX1_leads_1 : List UInt8 := dkwX1_leads_1 ++ dktX1_leads_2
def dkwX1_leads_0 : List UInt8 := [27, 3, 16, 99, 184, 0, 125, 42, 180, 0, 49, 27, 50, 77, 44, 198, 0, 17, 42, 44, 180, 1, 22]
abbrev dktX1_leads_0 : List UInt8 := dkwX1_leads_0 ++ dktX1_leads_1
theorem dksX1_leads_0 : cX1_leads.data.toList.drop 0 = dktX1_leads_0 := by decide +kernel
theorem dksX1_leads_1 : cX1_leads.data.toList.drop 23 = dktX1_leads_1 := dk_seg dksX1_leads_0 23 rfl rfl
theorem dksX1_leads_2 : cX1_leads.data.toList.drop 47 = dktX1_leads_2 := dk_seg dksX1_leads_1 24 rfl rfl
theorem dX1_leads_0 : decode cX1_leads 0 = .ok (.iload_n 1, 1) := dk_27 (dk_at dksX1_leads_0 0 rfl rfl)
theorem dX1_leads_1 : decode cX1_leads 1 = .ok (.iconst 0, 1) := dk_3 (dk_at dksX1_leads_0 1 rfl rfl)
theorem dX1_leads_2 : decode cX1_leads 2 = .ok (.bipush 99, 2) := dk_16 99 (dk_at dksX1_leads_0 2 rfl rfl)
theorem dX1_leads_4 : decode cX1_leads 4 = .ok (.invokestatic 125, 3) := dk_184 0 125 (dk_at dksX1_leads_0 4 rfl rfl)
theorem dX1_leads_7 : decode cX1_leads 7 = .ok (.aload_n 0, 1) := dk_42 (dk_at dksX1_leads_0 7 rfl rfl)
theorem dX1_leads_8 : decode cX1_leads 8 = .ok (.getfield 49, 3) := dk_180 0 49 (dk_at dksX1_leads_0 8 rfl rfl)
theorem dX1_leads_11 : decode cX1_leads 11 = .ok (.iload_n 1, 1) := dk_27 (dk_at dksX1_leads_0 11 rfl rfl)
theorem dX1_leads_12 : decode cX1_leads 12 = .ok (.aaload, 1) := dk_50 (dk_at dksX1_leads_0 12 rfl rfl)
theorem dX1_leads_13 : decode cX1_leads 13 = .ok (.astore_n 2, 1) := dk_77 (dk_at dksX1_leads_0 13 rfl rfl)
theorem dX1_leads_14 : decode cX1_leads 14 = .ok (.aload_n 2, 1) := dk_44 (dk_at dksX1_leads_0 14 rfl rfl)
theorem dX1_leads_15 : decode cX1_leads 15 = .ok (.ifnull 17, 3) := dk_198 0 17 (dk_at dksX1_leads_0 15 rfl rfl)
theorem dX1_leads_18 : decode cX1_leads 18 = .ok (.aload_n 0, 1) := dk_42 (dk_at dksX1_leads_0 18 rfl rfl)
theorem dX1_leads_19 : decode cX1_leads 19 = .ok (.aload_n 2, 1) := dk_44 (dk_at dksX1_leads_0 19 rfl rfl)
theorem dX1_leads_20 : decode cX1_leads 20 = .ok (.getfield 278, 3) := dk_180 1 22 (dk_at dksX1_leads_0 20 rfl rfl)
theorem dX1_leads_23 : decode cX1_leads 23 = .ok (.invokevirtual 279, 3) := dk_182 1 23 (dk_at dksX1_leads_1 0 rfl rfl)
theorem dX1_leads_26 : decode cX1_leads 26 = .ok (.invokevirtual 440, 3) := dk_182 1 184 (dk_at dksX1_leads_1 3 rfl rfl)
theorem dX1_leads_29 : decode cX1_leads 29 = .ok (.ifCond .ne 7, 3) := dk_154 0 7 (dk_at dksX1_leads_1 6 rfl rfl)
theorem dX1_leads_32 : decode cX1_leads 32 = .ok (.iconst (-1), 1) := dk_2 (dk_at dksX1_leads_1 9 rfl rfl)
theorem dX1_leads_33 : decode cX1_leads 33 = .ok (.goto 15, 3) := dk_167 0 15 (dk_at dksX1_leads_1 10 rfl rfl)
theorem dX1_leads_36 : decode cX1_leads 36 = .ok (.bipush 100, 2) := dk_16 100 (dk_at dksX1_leads_1 13 rfl rfl)
theorem dX1_leads_38 : decode cX1_leads 38 = .ok (.aload_n 2, 1) := dk_44 (dk_at dksX1_leads_1 15 rfl rfl)
theorem dX1_leads_39 : decode cX1_leads 39 = .ok (.getfield 278, 3) := dk_180 1 22 (dk_at dksX1_leads_1 16 rfl rfl)
theorem dX1_leads_42 : decode cX1_leads 42 = .ok (.imul, 1) := dk_104 (dk_at dksX1_leads_1 19 rfl rfl)
theorem dX1_leads_43 : decode cX1_leads 43 = .ok (.aload_n 2, 1) := dk_44 (dk_at dksX1_leads_1 20 rfl rfl)
theorem dX1_leads_44 : decode cX1_leads 44 = .ok (.getfield 445, 3) := dk_180 1 189 (dk_at dksX1_leads_1 21 rfl rfl)
theorem dX1_leads_47 : decode cX1_leads 47 = .ok (.iadd, 1) := dk_96 (dk_at dksX1_leads_2 0 rfl rfl)
theorem dX1_leads_48 : decode cX1_leads 48 = .ok (.ireturn, 1) := dk_172 (dk_at dksX1_leads_2 1 rfl rfl)
abbrev cX1_build : ByteArray := prog_1_method_76_code
def yX1_build : MethodName := ⟨RX1, "build", "(IIII)I"⟩
def dkwX1_build_11 : List UInt8 := [3, 185, 1, 20, 2, 0, 87, 21, 7, 172]
abbrev dktX1_build_11 : List UInt8 := dkwX1_build_11 ++ []
def dkwX1_build_10 : List UInt8 := [185, 0, 76, 2, 0, 87, 42, 180, 0, 53, 185, 0, 105, 1, 0, 16, 20, 164, 0, 14, 42, 180, 0, 53]
abbrev dktX1_build_10 : List UInt8 := dkwX1_build_10 ++ dktX1_build_11
def dkwX1_build_9 : List UInt8 := [54, 7, 42, 180, 0, 53, 187, 1, 192, 89, 27, 28, 29, 21, 4, 21, 5, 21, 7, 183, 1, 211]
abbrev dktX1_build_9 : List UInt8 := dkwX1_build_9 ++ dktX1_build_10
def dkwX1_build_8 : List UInt8 := [104, 28, 96, 17, 3, 232, 112, 182, 0, 140, 42, 27, 25, 6, 42, 25, 6, 182, 0, 154, 182, 0, 195]
abbrev dktX1_build_8 : List UInt8 := dkwX1_build_8 ++ dktX1_build_9
def dkwX1_build_7 : List UInt8 := [132, 6, 1, 167, 255, 148, 187, 0, 13, 89, 183, 0, 15, 58, 6, 25, 6, 21, 4, 4, 16, 31, 21, 5]
abbrev dktX1_build_7 : List UInt8 := dkwX1_build_7 ++ dktX1_build_8
def dkwX1_build_6 : List UInt8 := [54, 8, 21, 8, 153, 0, 19, 42, 89, 180, 1, 205, 4, 96, 181, 1, 205, 25, 7, 182, 1, 208, 172]
abbrev dktX1_build_6 : List UInt8 := dkwX1_build_6 ++ dktX1_build_7
def dkwX1_build_5 : List UInt8 := [182, 1, 201, 21, 4, 160, 0, 17, 25, 7, 182, 1, 204, 21, 5, 160, 0, 7, 4, 167, 0, 4, 3]
abbrev dktX1_build_5 : List UInt8 := dkwX1_build_5 ++ dktX1_build_6
def dkwX1_build_4 : List UInt8 := [160, 0, 45, 25, 7, 182, 1, 196, 28, 160, 0, 36, 25, 7, 182, 1, 198, 29, 160, 0, 27, 25, 7]
abbrev dktX1_build_4 : List UInt8 := dkwX1_build_4 ++ dktX1_build_5
def dkwX1_build_3 : List UInt8 := [42, 180, 0, 53, 21, 6, 185, 0, 109, 2, 0, 192, 1, 192, 58, 7, 25, 7, 182, 1, 194, 27]
abbrev dktX1_build_3 : List UInt8 := dkwX1_build_3 ++ dktX1_build_4
def dkwX1_build_2 : List UInt8 := [100, 3, 184, 1, 98, 54, 5, 3, 54, 6, 21, 6, 42, 180, 0, 53, 185, 0, 105, 1, 0, 162, 0, 100]
abbrev dktX1_build_2 : List UInt8 := dkwX1_build_2 ++ dktX1_build_3
def dkwX1_build_1 : List UInt8 := [21, 4, 184, 0, 122, 42, 42, 180, 0, 62, 27, 182, 0, 203, 42, 180, 0, 62, 29, 182, 0, 207, 16, 10]
abbrev dktX1_build_1 : List UInt8 := dkwX1_build_1 ++ dktX1_build_2
def dkwX1_build_0 : List UInt8 := [27, 42, 180, 0, 27, 185, 0, 105, 1, 0, 184, 0, 191, 28, 3, 16, 9, 184, 0, 125, 29, 184, 0, 122]
abbrev dktX1_build_0 : List UInt8 := dkwX1_build_0 ++ dktX1_build_1
theorem dksX1_build_0 : cX1_build.data.toList.drop 0 = dktX1_build_0 := by decide +kernel
theorem dksX1_build_1 : cX1_build.data.toList.drop 24 = dktX1_build_1 := dk_seg dksX1_build_0 24 rfl rfl
theorem dksX1_build_2 : cX1_build.data.toList.drop 48 = dktX1_build_2 := dk_seg dksX1_build_1 24 rfl rfl
theorem dksX1_build_3 : cX1_build.data.toList.drop 72 = dktX1_build_3 := dk_seg dksX1_build_2 24 rfl rfl
theorem dksX1_build_4 : cX1_build.data.toList.drop 94 = dktX1_build_4 := dk_seg dksX1_build_3 22 rfl rfl
theorem dksX1_build_5 : cX1_build.data.toList.drop 117 = dktX1_build_5 := dk_seg dksX1_build_4 23 rfl rfl
theorem dksX1_build_6 : cX1_build.data.toList.drop 140 = dktX1_build_6 := dk_seg dksX1_build_5 23 rfl rfl
theorem dksX1_build_7 : cX1_build.data.toList.drop 163 = dktX1_build_7 := dk_seg dksX1_build_6 23 rfl rfl
theorem dksX1_build_8 : cX1_build.data.toList.drop 187 = dktX1_build_8 := dk_seg dksX1_build_7 24 rfl rfl
theorem dksX1_build_9 : cX1_build.data.toList.drop 210 = dktX1_build_9 := dk_seg dksX1_build_8 23 rfl rfl
theorem dksX1_build_10 : cX1_build.data.toList.drop 232 = dktX1_build_10 := dk_seg dksX1_build_9 22 rfl rfl
theorem dksX1_build_11 : cX1_build.data.toList.drop 256 = dktX1_build_11 := dk_seg dksX1_build_10 24 rfl rfl
theorem dX1_build_0 : decode cX1_build 0 = .ok (.iload_n 1, 1) := dk_27 (dk_at dksX1_build_0 0 rfl rfl)
theorem dX1_build_1 : decode cX1_build 1 = .ok (.aload_n 0, 1) := dk_42 (dk_at dksX1_build_0 1 rfl rfl)
theorem dX1_build_2 : decode cX1_build 2 = .ok (.getfield 27, 3) := dk_180 0 27 (dk_at dksX1_build_0 2 rfl rfl)
theorem dX1_build_5 : decode cX1_build 5 = .ok (.invokeinterface 105 1, 5) := by decide +kernel
theorem dX1_build_10 : decode cX1_build 10 = .ok (.invokestatic 191, 3) := dk_184 0 191 (dk_at dksX1_build_0 10 rfl rfl)
theorem dX1_build_13 : decode cX1_build 13 = .ok (.iload_n 2, 1) := dk_28 (dk_at dksX1_build_0 13 rfl rfl)
theorem dX1_build_14 : decode cX1_build 14 = .ok (.iconst 0, 1) := dk_3 (dk_at dksX1_build_0 14 rfl rfl)
theorem dX1_build_15 : decode cX1_build 15 = .ok (.bipush 9, 2) := dk_16 9 (dk_at dksX1_build_0 15 rfl rfl)
theorem dX1_build_17 : decode cX1_build 17 = .ok (.invokestatic 125, 3) := dk_184 0 125 (dk_at dksX1_build_0 17 rfl rfl)
theorem dX1_build_20 : decode cX1_build 20 = .ok (.iload_n 3, 1) := dk_29 (dk_at dksX1_build_0 20 rfl rfl)
theorem dX1_build_21 : decode cX1_build 21 = .ok (.invokestatic 122, 3) := dk_184 0 122 (dk_at dksX1_build_0 21 rfl rfl)
theorem dX1_build_24 : decode cX1_build 24 = .ok (.iload 4, 2) := dk_21 4 (dk_at dksX1_build_1 0 rfl rfl)
theorem dX1_build_26 : decode cX1_build 26 = .ok (.invokestatic 122, 3) := dk_184 0 122 (dk_at dksX1_build_1 2 rfl rfl)
theorem dX1_build_29 : decode cX1_build 29 = .ok (.aload_n 0, 1) := dk_42 (dk_at dksX1_build_1 5 rfl rfl)
theorem dX1_build_30 : decode cX1_build 30 = .ok (.aload_n 0, 1) := dk_42 (dk_at dksX1_build_1 6 rfl rfl)
theorem dX1_build_31 : decode cX1_build 31 = .ok (.getfield 62, 3) := dk_180 0 62 (dk_at dksX1_build_1 7 rfl rfl)
theorem dX1_build_34 : decode cX1_build 34 = .ok (.iload_n 1, 1) := dk_27 (dk_at dksX1_build_1 10 rfl rfl)
theorem dX1_build_35 : decode cX1_build 35 = .ok (.invokevirtual 203, 3) := dk_182 0 203 (dk_at dksX1_build_1 11 rfl rfl)
theorem dX1_build_38 : decode cX1_build 38 = .ok (.aload_n 0, 1) := dk_42 (dk_at dksX1_build_1 14 rfl rfl)
theorem dX1_build_39 : decode cX1_build 39 = .ok (.getfield 62, 3) := dk_180 0 62 (dk_at dksX1_build_1 15 rfl rfl)
theorem dX1_build_42 : decode cX1_build 42 = .ok (.iload_n 3, 1) := dk_29 (dk_at dksX1_build_1 18 rfl rfl)
theorem dX1_build_43 : decode cX1_build 43 = .ok (.invokevirtual 207, 3) := dk_182 0 207 (dk_at dksX1_build_1 19 rfl rfl)
theorem dX1_build_46 : decode cX1_build 46 = .ok (.bipush 10, 2) := dk_16 10 (dk_at dksX1_build_1 22 rfl rfl)
theorem dX1_build_48 : decode cX1_build 48 = .ok (.isub, 1) := dk_100 (dk_at dksX1_build_2 0 rfl rfl)
theorem dX1_build_49 : decode cX1_build 49 = .ok (.iconst 0, 1) := dk_3 (dk_at dksX1_build_2 1 rfl rfl)
theorem dX1_build_50 : decode cX1_build 50 = .ok (.invokestatic 354, 3) := dk_184 1 98 (dk_at dksX1_build_2 2 rfl rfl)
theorem dX1_build_53 : decode cX1_build 53 = .ok (.istore 5, 2) := dk_54 5 (dk_at dksX1_build_2 5 rfl rfl)
theorem dX1_build_55 : decode cX1_build 55 = .ok (.iconst 0, 1) := dk_3 (dk_at dksX1_build_2 7 rfl rfl)
theorem dX1_build_56 : decode cX1_build 56 = .ok (.istore 6, 2) := dk_54 6 (dk_at dksX1_build_2 8 rfl rfl)
theorem dX1_build_58 : decode cX1_build 58 = .ok (.iload 6, 2) := dk_21 6 (dk_at dksX1_build_2 10 rfl rfl)
theorem dX1_build_60 : decode cX1_build 60 = .ok (.aload_n 0, 1) := dk_42 (dk_at dksX1_build_2 12 rfl rfl)
theorem dX1_build_61 : decode cX1_build 61 = .ok (.getfield 53, 3) := dk_180 0 53 (dk_at dksX1_build_2 13 rfl rfl)
theorem dX1_build_64 : decode cX1_build 64 = .ok (.invokeinterface 105 1, 5) := by decide +kernel
theorem dX1_build_69 : decode cX1_build 69 = .ok (.if_icmp .ge 100, 3) := dk_162 0 100 (dk_at dksX1_build_2 21 rfl rfl)
theorem dX1_build_72 : decode cX1_build 72 = .ok (.aload_n 0, 1) := dk_42 (dk_at dksX1_build_3 0 rfl rfl)
theorem dX1_build_73 : decode cX1_build 73 = .ok (.getfield 53, 3) := dk_180 0 53 (dk_at dksX1_build_3 1 rfl rfl)
theorem dX1_build_76 : decode cX1_build 76 = .ok (.iload 6, 2) := dk_21 6 (dk_at dksX1_build_3 4 rfl rfl)
theorem dX1_build_78 : decode cX1_build 78 = .ok (.invokeinterface 109 2, 5) := by decide +kernel
theorem dX1_build_83 : decode cX1_build 83 = .ok (.checkcast 448, 3) := dk_192 1 192 (dk_at dksX1_build_3 11 rfl rfl)
theorem dX1_build_86 : decode cX1_build 86 = .ok (.astore 7, 2) := dk_58 7 (dk_at dksX1_build_3 14 rfl rfl)
theorem dX1_build_88 : decode cX1_build 88 = .ok (.aload 7, 2) := dk_25 7 (dk_at dksX1_build_3 16 rfl rfl)
theorem dX1_build_90 : decode cX1_build 90 = .ok (.invokevirtual 450, 3) := dk_182 1 194 (dk_at dksX1_build_3 18 rfl rfl)
theorem dX1_build_93 : decode cX1_build 93 = .ok (.iload_n 1, 1) := dk_27 (dk_at dksX1_build_3 21 rfl rfl)
theorem dX1_build_94 : decode cX1_build 94 = .ok (.if_icmp .ne 45, 3) := dk_160 0 45 (dk_at dksX1_build_4 0 rfl rfl)
theorem dX1_build_97 : decode cX1_build 97 = .ok (.aload 7, 2) := dk_25 7 (dk_at dksX1_build_4 3 rfl rfl)
theorem dX1_build_99 : decode cX1_build 99 = .ok (.invokevirtual 452, 3) := dk_182 1 196 (dk_at dksX1_build_4 5 rfl rfl)
theorem dX1_build_102 : decode cX1_build 102 = .ok (.iload_n 2, 1) := dk_28 (dk_at dksX1_build_4 8 rfl rfl)
theorem dX1_build_103 : decode cX1_build 103 = .ok (.if_icmp .ne 36, 3) := dk_160 0 36 (dk_at dksX1_build_4 9 rfl rfl)
theorem dX1_build_106 : decode cX1_build 106 = .ok (.aload 7, 2) := dk_25 7 (dk_at dksX1_build_4 12 rfl rfl)
theorem dX1_build_108 : decode cX1_build 108 = .ok (.invokevirtual 454, 3) := dk_182 1 198 (dk_at dksX1_build_4 14 rfl rfl)
theorem dX1_build_111 : decode cX1_build 111 = .ok (.iload_n 3, 1) := dk_29 (dk_at dksX1_build_4 17 rfl rfl)
theorem dX1_build_112 : decode cX1_build 112 = .ok (.if_icmp .ne 27, 3) := dk_160 0 27 (dk_at dksX1_build_4 18 rfl rfl)
theorem dX1_build_115 : decode cX1_build 115 = .ok (.aload 7, 2) := dk_25 7 (dk_at dksX1_build_4 21 rfl rfl)
theorem dX1_build_117 : decode cX1_build 117 = .ok (.invokevirtual 457, 3) := dk_182 1 201 (dk_at dksX1_build_5 0 rfl rfl)
theorem dX1_build_120 : decode cX1_build 120 = .ok (.iload 4, 2) := dk_21 4 (dk_at dksX1_build_5 3 rfl rfl)
theorem dX1_build_122 : decode cX1_build 122 = .ok (.if_icmp .ne 17, 3) := dk_160 0 17 (dk_at dksX1_build_5 5 rfl rfl)
theorem dX1_build_125 : decode cX1_build 125 = .ok (.aload 7, 2) := dk_25 7 (dk_at dksX1_build_5 8 rfl rfl)
theorem dX1_build_127 : decode cX1_build 127 = .ok (.invokevirtual 460, 3) := dk_182 1 204 (dk_at dksX1_build_5 10 rfl rfl)
theorem dX1_build_130 : decode cX1_build 130 = .ok (.iload 5, 2) := dk_21 5 (dk_at dksX1_build_5 13 rfl rfl)
theorem dX1_build_132 : decode cX1_build 132 = .ok (.if_icmp .ne 7, 3) := dk_160 0 7 (dk_at dksX1_build_5 15 rfl rfl)
theorem dX1_build_135 : decode cX1_build 135 = .ok (.iconst 1, 1) := dk_4 (dk_at dksX1_build_5 18 rfl rfl)
theorem dX1_build_136 : decode cX1_build 136 = .ok (.goto 4, 3) := dk_167 0 4 (dk_at dksX1_build_5 19 rfl rfl)
theorem dX1_build_139 : decode cX1_build 139 = .ok (.iconst 0, 1) := dk_3 (dk_at dksX1_build_5 22 rfl rfl)
theorem dX1_build_140 : decode cX1_build 140 = .ok (.istore 8, 2) := dk_54 8 (dk_at dksX1_build_6 0 rfl rfl)
theorem dX1_build_142 : decode cX1_build 142 = .ok (.iload 8, 2) := dk_21 8 (dk_at dksX1_build_6 2 rfl rfl)
theorem dX1_build_144 : decode cX1_build 144 = .ok (.ifCond .eq 19, 3) := dk_153 0 19 (dk_at dksX1_build_6 4 rfl rfl)
theorem dX1_build_147 : decode cX1_build 147 = .ok (.aload_n 0, 1) := dk_42 (dk_at dksX1_build_6 7 rfl rfl)
theorem dX1_build_148 : decode cX1_build 148 = .ok (.dup, 1) := dk_89 (dk_at dksX1_build_6 8 rfl rfl)
theorem dX1_build_149 : decode cX1_build 149 = .ok (.getfield 461, 3) := dk_180 1 205 (dk_at dksX1_build_6 9 rfl rfl)
theorem dX1_build_152 : decode cX1_build 152 = .ok (.iconst 1, 1) := dk_4 (dk_at dksX1_build_6 12 rfl rfl)
theorem dX1_build_153 : decode cX1_build 153 = .ok (.iadd, 1) := dk_96 (dk_at dksX1_build_6 13 rfl rfl)
theorem dX1_build_154 : decode cX1_build 154 = .ok (.putfield 461, 3) := dk_181 1 205 (dk_at dksX1_build_6 14 rfl rfl)
theorem dX1_build_157 : decode cX1_build 157 = .ok (.aload 7, 2) := dk_25 7 (dk_at dksX1_build_6 17 rfl rfl)
theorem dX1_build_159 : decode cX1_build 159 = .ok (.invokevirtual 464, 3) := dk_182 1 208 (dk_at dksX1_build_6 19 rfl rfl)
theorem dX1_build_162 : decode cX1_build 162 = .ok (.ireturn, 1) := dk_172 (dk_at dksX1_build_6 22 rfl rfl)
theorem dX1_build_163 : decode cX1_build 163 = .ok (.iinc 6 1, 3) := dk_132 6 1 (dk_at dksX1_build_7 0 rfl rfl)
theorem dX1_build_166 : decode cX1_build 166 = .ok (.goto (-108), 3) := dk_167 255 148 (dk_at dksX1_build_7 3 rfl rfl)
theorem dX1_build_169 : decode cX1_build 169 = .ok (.new 13, 3) := dk_187 0 13 (dk_at dksX1_build_7 6 rfl rfl)
theorem dX1_build_172 : decode cX1_build 172 = .ok (.dup, 1) := dk_89 (dk_at dksX1_build_7 9 rfl rfl)
theorem dX1_build_173 : decode cX1_build 173 = .ok (.invokespecial 15, 3) := dk_183 0 15 (dk_at dksX1_build_7 10 rfl rfl)
theorem dX1_build_176 : decode cX1_build 176 = .ok (.astore 6, 2) := dk_58 6 (dk_at dksX1_build_7 13 rfl rfl)
theorem dX1_build_178 : decode cX1_build 178 = .ok (.aload 6, 2) := dk_25 6 (dk_at dksX1_build_7 15 rfl rfl)
theorem dX1_build_180 : decode cX1_build 180 = .ok (.iload 4, 2) := dk_21 4 (dk_at dksX1_build_7 17 rfl rfl)
theorem dX1_build_182 : decode cX1_build 182 = .ok (.iconst 1, 1) := dk_4 (dk_at dksX1_build_7 19 rfl rfl)
theorem dX1_build_183 : decode cX1_build 183 = .ok (.bipush 31, 2) := dk_16 31 (dk_at dksX1_build_7 20 rfl rfl)
theorem dX1_build_185 : decode cX1_build 185 = .ok (.iload 5, 2) := dk_21 5 (dk_at dksX1_build_7 22 rfl rfl)
theorem dX1_build_187 : decode cX1_build 187 = .ok (.imul, 1) := dk_104 (dk_at dksX1_build_8 0 rfl rfl)
theorem dX1_build_188 : decode cX1_build 188 = .ok (.iload_n 2, 1) := dk_28 (dk_at dksX1_build_8 1 rfl rfl)
theorem dX1_build_189 : decode cX1_build 189 = .ok (.iadd, 1) := dk_96 (dk_at dksX1_build_8 2 rfl rfl)
theorem dX1_build_190 : decode cX1_build 190 = .ok (.sipush 1000, 3) := dk_17 3 232 (dk_at dksX1_build_8 3 rfl rfl)
theorem dX1_build_193 : decode cX1_build 193 = .ok (.irem, 1) := dk_112 (dk_at dksX1_build_8 6 rfl rfl)
theorem dX1_build_194 : decode cX1_build 194 = .ok (.invokevirtual 140, 3) := dk_182 0 140 (dk_at dksX1_build_8 7 rfl rfl)
theorem dX1_build_197 : decode cX1_build 197 = .ok (.aload_n 0, 1) := dk_42 (dk_at dksX1_build_8 10 rfl rfl)
theorem dX1_build_198 : decode cX1_build 198 = .ok (.iload_n 1, 1) := dk_27 (dk_at dksX1_build_8 11 rfl rfl)
theorem dX1_build_199 : decode cX1_build 199 = .ok (.aload 6, 2) := dk_25 6 (dk_at dksX1_build_8 12 rfl rfl)
theorem dX1_build_201 : decode cX1_build 201 = .ok (.aload_n 0, 1) := dk_42 (dk_at dksX1_build_8 14 rfl rfl)
theorem dX1_build_202 : decode cX1_build 202 = .ok (.aload 6, 2) := dk_25 6 (dk_at dksX1_build_8 15 rfl rfl)
theorem dX1_build_204 : decode cX1_build 204 = .ok (.invokevirtual 154, 3) := dk_182 0 154 (dk_at dksX1_build_8 17 rfl rfl)
theorem dX1_build_207 : decode cX1_build 207 = .ok (.invokevirtual 195, 3) := dk_182 0 195 (dk_at dksX1_build_8 20 rfl rfl)
theorem dX1_build_210 : decode cX1_build 210 = .ok (.istore 7, 2) := dk_54 7 (dk_at dksX1_build_9 0 rfl rfl)
theorem dX1_build_212 : decode cX1_build 212 = .ok (.aload_n 0, 1) := dk_42 (dk_at dksX1_build_9 2 rfl rfl)
theorem dX1_build_213 : decode cX1_build 213 = .ok (.getfield 53, 3) := dk_180 0 53 (dk_at dksX1_build_9 3 rfl rfl)
theorem dX1_build_216 : decode cX1_build 216 = .ok (.new 448, 3) := dk_187 1 192 (dk_at dksX1_build_9 6 rfl rfl)
theorem dX1_build_219 : decode cX1_build 219 = .ok (.dup, 1) := dk_89 (dk_at dksX1_build_9 9 rfl rfl)
theorem dX1_build_220 : decode cX1_build 220 = .ok (.iload_n 1, 1) := dk_27 (dk_at dksX1_build_9 10 rfl rfl)
theorem dX1_build_221 : decode cX1_build 221 = .ok (.iload_n 2, 1) := dk_28 (dk_at dksX1_build_9 11 rfl rfl)
theorem dX1_build_222 : decode cX1_build 222 = .ok (.iload_n 3, 1) := dk_29 (dk_at dksX1_build_9 12 rfl rfl)
theorem dX1_build_223 : decode cX1_build 223 = .ok (.iload 4, 2) := dk_21 4 (dk_at dksX1_build_9 13 rfl rfl)
theorem dX1_build_225 : decode cX1_build 225 = .ok (.iload 5, 2) := dk_21 5 (dk_at dksX1_build_9 15 rfl rfl)
theorem dX1_build_227 : decode cX1_build 227 = .ok (.iload 7, 2) := dk_21 7 (dk_at dksX1_build_9 17 rfl rfl)
theorem dX1_build_229 : decode cX1_build 229 = .ok (.invokespecial 467, 3) := dk_183 1 211 (dk_at dksX1_build_9 19 rfl rfl)
theorem dX1_build_232 : decode cX1_build 232 = .ok (.invokeinterface 76 2, 5) := by decide +kernel
theorem dX1_build_237 : decode cX1_build 237 = .ok (.pop, 1) := dk_87 (dk_at dksX1_build_10 5 rfl rfl)
theorem dX1_build_238 : decode cX1_build 238 = .ok (.aload_n 0, 1) := dk_42 (dk_at dksX1_build_10 6 rfl rfl)
theorem dX1_build_239 : decode cX1_build 239 = .ok (.getfield 53, 3) := dk_180 0 53 (dk_at dksX1_build_10 7 rfl rfl)
theorem dX1_build_242 : decode cX1_build 242 = .ok (.invokeinterface 105 1, 5) := by decide +kernel
theorem dX1_build_247 : decode cX1_build 247 = .ok (.bipush 20, 2) := dk_16 20 (dk_at dksX1_build_10 15 rfl rfl)
theorem dX1_build_249 : decode cX1_build 249 = .ok (.if_icmp .le 14, 3) := dk_164 0 14 (dk_at dksX1_build_10 17 rfl rfl)
theorem dX1_build_252 : decode cX1_build 252 = .ok (.aload_n 0, 1) := dk_42 (dk_at dksX1_build_10 20 rfl rfl)
theorem dX1_build_253 : decode cX1_build 253 = .ok (.getfield 53, 3) := dk_180 0 53 (dk_at dksX1_build_10 21 rfl rfl)
theorem dX1_build_256 : decode cX1_build 256 = .ok (.iconst 0, 1) := dk_3 (dk_at dksX1_build_11 0 rfl rfl)
theorem dX1_build_257 : decode cX1_build 257 = .ok (.invokeinterface 276 2, 5) := by decide +kernel
theorem dX1_build_262 : decode cX1_build 262 = .ok (.pop, 1) := dk_87 (dk_at dksX1_build_11 6 rfl rfl)
theorem dX1_build_263 : decode cX1_build 263 = .ok (.iload 7, 2) := dk_21 7 (dk_at dksX1_build_11 7 rfl rfl)
theorem dX1_build_265 : decode cX1_build 265 = .ok (.ireturn, 1) := dk_172 (dk_at dksX1_build_11 9 rfl rfl)
abbrev cX1_push : ByteArray := prog_1_method_78_code
def yX1_push : MethodName := ⟨RX1, "push", "(I)I"⟩
def dkwX1_push_3 : List UInt8 := [172]
abbrev dktX1_push_3 : List UInt8 := dkwX1_push_3 ++ []
def dkwX1_push_2 : List UInt8 := [62, 42, 89, 180, 1, 214, 28, 128, 181, 1, 214, 42, 89, 180, 1, 220, 4, 27, 120, 128, 181, 1, 220, 29]
abbrev dktX1_push_2 : List UInt8 := dkwX1_push_2 ++ dktX1_push_3
def dkwX1_push_1 : List UInt8 := [126, 28, 160, 0, 7, 4, 167, 0, 4, 3, 184, 0, 136, 28, 42, 180, 1, 214, 2, 130, 126, 184, 1, 217]
abbrev dktX1_push_1 : List UInt8 := dkwX1_push_1 ++ dktX1_push_2
def dkwX1_push_0 : List UInt8 := [27, 42, 180, 0, 27, 185, 0, 105, 1, 0, 184, 0, 191, 42, 27, 182, 1, 4, 61, 28, 42, 180, 0, 151]
abbrev dktX1_push_0 : List UInt8 := dkwX1_push_0 ++ dktX1_push_1
theorem dksX1_push_0 : cX1_push.data.toList.drop 0 = dktX1_push_0 := by decide +kernel
theorem dksX1_push_1 : cX1_push.data.toList.drop 24 = dktX1_push_1 := dk_seg dksX1_push_0 24 rfl rfl
theorem dksX1_push_2 : cX1_push.data.toList.drop 48 = dktX1_push_2 := dk_seg dksX1_push_1 24 rfl rfl
theorem dksX1_push_3 : cX1_push.data.toList.drop 72 = dktX1_push_3 := dk_seg dksX1_push_2 24 rfl rfl
theorem dX1_push_0 : decode cX1_push 0 = .ok (.iload_n 1, 1) := dk_27 (dk_at dksX1_push_0 0 rfl rfl)
theorem dX1_push_1 : decode cX1_push 1 = .ok (.aload_n 0, 1) := dk_42 (dk_at dksX1_push_0 1 rfl rfl)
theorem dX1_push_2 : decode cX1_push 2 = .ok (.getfield 27, 3) := dk_180 0 27 (dk_at dksX1_push_0 2 rfl rfl)
theorem dX1_push_5 : decode cX1_push 5 = .ok (.invokeinterface 105 1, 5) := by decide +kernel
theorem dX1_push_10 : decode cX1_push 10 = .ok (.invokestatic 191, 3) := dk_184 0 191 (dk_at dksX1_push_0 10 rfl rfl)
theorem dX1_push_13 : decode cX1_push 13 = .ok (.aload_n 0, 1) := dk_42 (dk_at dksX1_push_0 13 rfl rfl)
theorem dX1_push_14 : decode cX1_push 14 = .ok (.iload_n 1, 1) := dk_27 (dk_at dksX1_push_0 14 rfl rfl)
theorem dX1_push_15 : decode cX1_push 15 = .ok (.invokevirtual 260, 3) := dk_182 1 4 (dk_at dksX1_push_0 15 rfl rfl)
theorem dX1_push_18 : decode cX1_push 18 = .ok (.istore_n 2, 1) := dk_61 (dk_at dksX1_push_0 18 rfl rfl)
theorem dX1_push_19 : decode cX1_push 19 = .ok (.iload_n 2, 1) := dk_28 (dk_at dksX1_push_0 19 rfl rfl)
theorem dX1_push_20 : decode cX1_push 20 = .ok (.aload_n 0, 1) := dk_42 (dk_at dksX1_push_0 20 rfl rfl)
theorem dX1_push_21 : decode cX1_push 21 = .ok (.getfield 151, 3) := dk_180 0 151 (dk_at dksX1_push_0 21 rfl rfl)
theorem dX1_push_24 : decode cX1_push 24 = .ok (.iand, 1) := dk_126 (dk_at dksX1_push_1 0 rfl rfl)
theorem dX1_push_25 : decode cX1_push 25 = .ok (.iload_n 2, 1) := dk_28 (dk_at dksX1_push_1 1 rfl rfl)
theorem dX1_push_26 : decode cX1_push 26 = .ok (.if_icmp .ne 7, 3) := dk_160 0 7 (dk_at dksX1_push_1 2 rfl rfl)
theorem dX1_push_29 : decode cX1_push 29 = .ok (.iconst 1, 1) := dk_4 (dk_at dksX1_push_1 5 rfl rfl)
theorem dX1_push_30 : decode cX1_push 30 = .ok (.goto 4, 3) := dk_167 0 4 (dk_at dksX1_push_1 6 rfl rfl)
theorem dX1_push_33 : decode cX1_push 33 = .ok (.iconst 0, 1) := dk_3 (dk_at dksX1_push_1 9 rfl rfl)
theorem dX1_push_34 : decode cX1_push 34 = .ok (.invokestatic 136, 3) := dk_184 0 136 (dk_at dksX1_push_1 10 rfl rfl)
theorem dX1_push_37 : decode cX1_push 37 = .ok (.iload_n 2, 1) := dk_28 (dk_at dksX1_push_1 13 rfl rfl)
theorem dX1_push_38 : decode cX1_push 38 = .ok (.aload_n 0, 1) := dk_42 (dk_at dksX1_push_1 14 rfl rfl)
theorem dX1_push_39 : decode cX1_push 39 = .ok (.getfield 470, 3) := dk_180 1 214 (dk_at dksX1_push_1 15 rfl rfl)
theorem dX1_push_42 : decode cX1_push 42 = .ok (.iconst (-1), 1) := dk_2 (dk_at dksX1_push_1 18 rfl rfl)
theorem dX1_push_43 : decode cX1_push 43 = .ok (.ixor, 1) := dk_130 (dk_at dksX1_push_1 19 rfl rfl)
theorem dX1_push_44 : decode cX1_push 44 = .ok (.iand, 1) := dk_126 (dk_at dksX1_push_1 20 rfl rfl)
theorem dX1_push_45 : decode cX1_push 45 = .ok (.invokestatic 473, 3) := dk_184 1 217 (dk_at dksX1_push_1 21 rfl rfl)
theorem dX1_push_48 : decode cX1_push 48 = .ok (.istore_n 3, 1) := dk_62 (dk_at dksX1_push_2 0 rfl rfl)
theorem dX1_push_49 : decode cX1_push 49 = .ok (.aload_n 0, 1) := dk_42 (dk_at dksX1_push_2 1 rfl rfl)
theorem dX1_push_50 : decode cX1_push 50 = .ok (.dup, 1) := dk_89 (dk_at dksX1_push_2 2 rfl rfl)
theorem dX1_push_51 : decode cX1_push 51 = .ok (.getfield 470, 3) := dk_180 1 214 (dk_at dksX1_push_2 3 rfl rfl)
theorem dX1_push_54 : decode cX1_push 54 = .ok (.iload_n 2, 1) := dk_28 (dk_at dksX1_push_2 6 rfl rfl)
theorem dX1_push_55 : decode cX1_push 55 = .ok (.ior, 1) := dk_128 (dk_at dksX1_push_2 7 rfl rfl)
theorem dX1_push_56 : decode cX1_push 56 = .ok (.putfield 470, 3) := dk_181 1 214 (dk_at dksX1_push_2 8 rfl rfl)
theorem dX1_push_59 : decode cX1_push 59 = .ok (.aload_n 0, 1) := dk_42 (dk_at dksX1_push_2 11 rfl rfl)
theorem dX1_push_60 : decode cX1_push 60 = .ok (.dup, 1) := dk_89 (dk_at dksX1_push_2 12 rfl rfl)
theorem dX1_push_61 : decode cX1_push 61 = .ok (.getfield 476, 3) := dk_180 1 220 (dk_at dksX1_push_2 13 rfl rfl)
theorem dX1_push_64 : decode cX1_push 64 = .ok (.iconst 1, 1) := dk_4 (dk_at dksX1_push_2 16 rfl rfl)
theorem dX1_push_65 : decode cX1_push 65 = .ok (.iload_n 1, 1) := dk_27 (dk_at dksX1_push_2 17 rfl rfl)
theorem dX1_push_66 : decode cX1_push 66 = .ok (.ishl, 1) := dk_120 (dk_at dksX1_push_2 18 rfl rfl)
theorem dX1_push_67 : decode cX1_push 67 = .ok (.ior, 1) := dk_128 (dk_at dksX1_push_2 19 rfl rfl)
theorem dX1_push_68 : decode cX1_push 68 = .ok (.putfield 476, 3) := dk_181 1 220 (dk_at dksX1_push_2 20 rfl rfl)
theorem dX1_push_71 : decode cX1_push 71 = .ok (.iload_n 3, 1) := dk_29 (dk_at dksX1_push_2 23 rfl rfl)
theorem dX1_push_72 : decode cX1_push 72 = .ok (.ireturn, 1) := dk_172 (dk_at dksX1_push_3 0 rfl rfl)
abbrev cX1_pull : ByteArray := prog_1_method_79_code
def yX1_pull : MethodName := ⟨RX1, "pull", "(II)I"⟩
def dkwX1_pull_7 : List UInt8 := [182, 1, 4, 42, 180, 0, 151, 2, 130, 126, 184, 1, 217, 172]
abbrev dktX1_pull_7 : List UInt8 := dkwX1_pull_7 ++ []
def dkwX1_pull_6 : List UInt8 := [181, 0, 151, 29, 21, 6, 153, 0, 7, 4, 167, 0, 4, 3, 100, 62, 132, 5, 1, 167, 255, 166, 42, 27]
abbrev dktX1_pull_6 : List UInt8 := dkwX1_pull_6 ++ dktX1_pull_7
def dkwX1_pull_5 : List UInt8 := [42, 89, 180, 0, 151, 4, 25, 4, 21, 5, 185, 0, 109, 2, 0, 192, 0, 172, 182, 0, 200, 120, 128]
abbrev dktX1_pull_5 : List UInt8 := dkwX1_pull_5 ++ dktX1_pull_6
def dkwX1_pull_4 : List UInt8 := [185, 0, 109, 2, 0, 192, 0, 172, 182, 0, 200, 122, 4, 126, 154, 0, 7, 4, 167, 0, 4, 3, 54, 6]
abbrev dktX1_pull_4 : List UInt8 := dkwX1_pull_4 ++ dktX1_pull_5
def dkwX1_pull_3 : List UInt8 := [185, 0, 105, 1, 0, 162, 0, 84, 29, 158, 0, 80, 42, 180, 0, 151, 25, 4, 21, 5]
abbrev dktX1_pull_3 : List UInt8 := dkwX1_pull_3 ++ dktX1_pull_4
def dkwX1_pull_2 : List UInt8 := [185, 0, 109, 2, 0, 192, 0, 73, 180, 0, 165, 58, 4, 3, 54, 5, 21, 5, 25, 4]
abbrev dktX1_pull_2 : List UInt8 := dkwX1_pull_2 ++ dktX1_pull_3
def dkwX1_pull_1 : List UInt8 := [122, 4, 126, 4, 160, 0, 7, 4, 167, 0, 4, 3, 184, 0, 136, 28, 62, 42, 180, 0, 27, 27]
abbrev dktX1_pull_1 : List UInt8 := dkwX1_pull_1 ++ dktX1_pull_2
def dkwX1_pull_0 : List UInt8 := [27, 42, 180, 0, 27, 185, 0, 105, 1, 0, 184, 0, 191, 28, 4, 8, 184, 0, 125, 42, 180, 1, 220, 27]
abbrev dktX1_pull_0 : List UInt8 := dkwX1_pull_0 ++ dktX1_pull_1
theorem dksX1_pull_0 : cX1_pull.data.toList.drop 0 = dktX1_pull_0 := by decide +kernel
theorem dksX1_pull_1 : cX1_pull.data.toList.drop 24 = dktX1_pull_1 := dk_seg dksX1_pull_0 24 rfl rfl
theorem dksX1_pull_2 : cX1_pull.data.toList.drop 46 = dktX1_pull_2 := dk_seg dksX1_pull_1 22 rfl rfl
theorem dksX1_pull_3 : cX1_pull.data.toList.drop 66 = dktX1_pull_3 := dk_seg dksX1_pull_2 20 rfl rfl
theorem dksX1_pull_4 : cX1_pull.data.toList.drop 86 = dktX1_pull_4 := dk_seg dksX1_pull_3 20 rfl rfl
theorem dksX1_pull_5 : cX1_pull.data.toList.drop 110 = dktX1_pull_5 := dk_seg dksX1_pull_4 24 rfl rfl
theorem dksX1_pull_6 : cX1_pull.data.toList.drop 133 = dktX1_pull_6 := dk_seg dksX1_pull_5 23 rfl rfl
theorem dksX1_pull_7 : cX1_pull.data.toList.drop 157 = dktX1_pull_7 := dk_seg dksX1_pull_6 24 rfl rfl
theorem dX1_pull_0 : decode cX1_pull 0 = .ok (.iload_n 1, 1) := dk_27 (dk_at dksX1_pull_0 0 rfl rfl)
theorem dX1_pull_1 : decode cX1_pull 1 = .ok (.aload_n 0, 1) := dk_42 (dk_at dksX1_pull_0 1 rfl rfl)
theorem dX1_pull_2 : decode cX1_pull 2 = .ok (.getfield 27, 3) := dk_180 0 27 (dk_at dksX1_pull_0 2 rfl rfl)
theorem dX1_pull_5 : decode cX1_pull 5 = .ok (.invokeinterface 105 1, 5) := by decide +kernel
theorem dX1_pull_10 : decode cX1_pull 10 = .ok (.invokestatic 191, 3) := dk_184 0 191 (dk_at dksX1_pull_0 10 rfl rfl)
theorem dX1_pull_13 : decode cX1_pull 13 = .ok (.iload_n 2, 1) := dk_28 (dk_at dksX1_pull_0 13 rfl rfl)
theorem dX1_pull_14 : decode cX1_pull 14 = .ok (.iconst 1, 1) := dk_4 (dk_at dksX1_pull_0 14 rfl rfl)
theorem dX1_pull_15 : decode cX1_pull 15 = .ok (.iconst 5, 1) := dk_8 (dk_at dksX1_pull_0 15 rfl rfl)
theorem dX1_pull_16 : decode cX1_pull 16 = .ok (.invokestatic 125, 3) := dk_184 0 125 (dk_at dksX1_pull_0 16 rfl rfl)
theorem dX1_pull_19 : decode cX1_pull 19 = .ok (.aload_n 0, 1) := dk_42 (dk_at dksX1_pull_0 19 rfl rfl)
theorem dX1_pull_20 : decode cX1_pull 20 = .ok (.getfield 476, 3) := dk_180 1 220 (dk_at dksX1_pull_0 20 rfl rfl)
theorem dX1_pull_23 : decode cX1_pull 23 = .ok (.iload_n 1, 1) := dk_27 (dk_at dksX1_pull_0 23 rfl rfl)
theorem dX1_pull_24 : decode cX1_pull 24 = .ok (.ishr, 1) := dk_122 (dk_at dksX1_pull_1 0 rfl rfl)
theorem dX1_pull_25 : decode cX1_pull 25 = .ok (.iconst 1, 1) := dk_4 (dk_at dksX1_pull_1 1 rfl rfl)
theorem dX1_pull_26 : decode cX1_pull 26 = .ok (.iand, 1) := dk_126 (dk_at dksX1_pull_1 2 rfl rfl)
theorem dX1_pull_27 : decode cX1_pull 27 = .ok (.iconst 1, 1) := dk_4 (dk_at dksX1_pull_1 3 rfl rfl)
theorem dX1_pull_28 : decode cX1_pull 28 = .ok (.if_icmp .ne 7, 3) := dk_160 0 7 (dk_at dksX1_pull_1 4 rfl rfl)
theorem dX1_pull_31 : decode cX1_pull 31 = .ok (.iconst 1, 1) := dk_4 (dk_at dksX1_pull_1 7 rfl rfl)
theorem dX1_pull_32 : decode cX1_pull 32 = .ok (.goto 4, 3) := dk_167 0 4 (dk_at dksX1_pull_1 8 rfl rfl)
theorem dX1_pull_35 : decode cX1_pull 35 = .ok (.iconst 0, 1) := dk_3 (dk_at dksX1_pull_1 11 rfl rfl)
theorem dX1_pull_36 : decode cX1_pull 36 = .ok (.invokestatic 136, 3) := dk_184 0 136 (dk_at dksX1_pull_1 12 rfl rfl)
theorem dX1_pull_39 : decode cX1_pull 39 = .ok (.iload_n 2, 1) := dk_28 (dk_at dksX1_pull_1 15 rfl rfl)
theorem dX1_pull_40 : decode cX1_pull 40 = .ok (.istore_n 3, 1) := dk_62 (dk_at dksX1_pull_1 16 rfl rfl)
theorem dX1_pull_41 : decode cX1_pull 41 = .ok (.aload_n 0, 1) := dk_42 (dk_at dksX1_pull_1 17 rfl rfl)
theorem dX1_pull_42 : decode cX1_pull 42 = .ok (.getfield 27, 3) := dk_180 0 27 (dk_at dksX1_pull_1 18 rfl rfl)
theorem dX1_pull_45 : decode cX1_pull 45 = .ok (.iload_n 1, 1) := dk_27 (dk_at dksX1_pull_1 21 rfl rfl)
theorem dX1_pull_46 : decode cX1_pull 46 = .ok (.invokeinterface 109 2, 5) := by decide +kernel
theorem dX1_pull_51 : decode cX1_pull 51 = .ok (.checkcast 73, 3) := dk_192 0 73 (dk_at dksX1_pull_2 5 rfl rfl)
theorem dX1_pull_54 : decode cX1_pull 54 = .ok (.getfield 165, 3) := dk_180 0 165 (dk_at dksX1_pull_2 8 rfl rfl)
theorem dX1_pull_57 : decode cX1_pull 57 = .ok (.astore 4, 2) := dk_58 4 (dk_at dksX1_pull_2 11 rfl rfl)
theorem dX1_pull_59 : decode cX1_pull 59 = .ok (.iconst 0, 1) := dk_3 (dk_at dksX1_pull_2 13 rfl rfl)
theorem dX1_pull_60 : decode cX1_pull 60 = .ok (.istore 5, 2) := dk_54 5 (dk_at dksX1_pull_2 14 rfl rfl)
theorem dX1_pull_62 : decode cX1_pull 62 = .ok (.iload 5, 2) := dk_21 5 (dk_at dksX1_pull_2 16 rfl rfl)
theorem dX1_pull_64 : decode cX1_pull 64 = .ok (.aload 4, 2) := dk_25 4 (dk_at dksX1_pull_2 18 rfl rfl)
theorem dX1_pull_66 : decode cX1_pull 66 = .ok (.invokeinterface 105 1, 5) := by decide +kernel
theorem dX1_pull_71 : decode cX1_pull 71 = .ok (.if_icmp .ge 84, 3) := dk_162 0 84 (dk_at dksX1_pull_3 5 rfl rfl)
theorem dX1_pull_74 : decode cX1_pull 74 = .ok (.iload_n 3, 1) := dk_29 (dk_at dksX1_pull_3 8 rfl rfl)
theorem dX1_pull_75 : decode cX1_pull 75 = .ok (.ifCond .le 80, 3) := dk_158 0 80 (dk_at dksX1_pull_3 9 rfl rfl)
theorem dX1_pull_78 : decode cX1_pull 78 = .ok (.aload_n 0, 1) := dk_42 (dk_at dksX1_pull_3 12 rfl rfl)
theorem dX1_pull_79 : decode cX1_pull 79 = .ok (.getfield 151, 3) := dk_180 0 151 (dk_at dksX1_pull_3 13 rfl rfl)
theorem dX1_pull_82 : decode cX1_pull 82 = .ok (.aload 4, 2) := dk_25 4 (dk_at dksX1_pull_3 16 rfl rfl)
theorem dX1_pull_84 : decode cX1_pull 84 = .ok (.iload 5, 2) := dk_21 5 (dk_at dksX1_pull_3 18 rfl rfl)
theorem dX1_pull_86 : decode cX1_pull 86 = .ok (.invokeinterface 109 2, 5) := by decide +kernel
theorem dX1_pull_91 : decode cX1_pull 91 = .ok (.checkcast 172, 3) := dk_192 0 172 (dk_at dksX1_pull_4 5 rfl rfl)
theorem dX1_pull_94 : decode cX1_pull 94 = .ok (.invokevirtual 200, 3) := dk_182 0 200 (dk_at dksX1_pull_4 8 rfl rfl)
theorem dX1_pull_97 : decode cX1_pull 97 = .ok (.ishr, 1) := dk_122 (dk_at dksX1_pull_4 11 rfl rfl)
theorem dX1_pull_98 : decode cX1_pull 98 = .ok (.iconst 1, 1) := dk_4 (dk_at dksX1_pull_4 12 rfl rfl)
theorem dX1_pull_99 : decode cX1_pull 99 = .ok (.iand, 1) := dk_126 (dk_at dksX1_pull_4 13 rfl rfl)
theorem dX1_pull_100 : decode cX1_pull 100 = .ok (.ifCond .ne 7, 3) := dk_154 0 7 (dk_at dksX1_pull_4 14 rfl rfl)
theorem dX1_pull_103 : decode cX1_pull 103 = .ok (.iconst 1, 1) := dk_4 (dk_at dksX1_pull_4 17 rfl rfl)
theorem dX1_pull_104 : decode cX1_pull 104 = .ok (.goto 4, 3) := dk_167 0 4 (dk_at dksX1_pull_4 18 rfl rfl)
theorem dX1_pull_107 : decode cX1_pull 107 = .ok (.iconst 0, 1) := dk_3 (dk_at dksX1_pull_4 21 rfl rfl)
theorem dX1_pull_108 : decode cX1_pull 108 = .ok (.istore 6, 2) := dk_54 6 (dk_at dksX1_pull_4 22 rfl rfl)
theorem dX1_pull_110 : decode cX1_pull 110 = .ok (.aload_n 0, 1) := dk_42 (dk_at dksX1_pull_5 0 rfl rfl)
theorem dX1_pull_111 : decode cX1_pull 111 = .ok (.dup, 1) := dk_89 (dk_at dksX1_pull_5 1 rfl rfl)
theorem dX1_pull_112 : decode cX1_pull 112 = .ok (.getfield 151, 3) := dk_180 0 151 (dk_at dksX1_pull_5 2 rfl rfl)
theorem dX1_pull_115 : decode cX1_pull 115 = .ok (.iconst 1, 1) := dk_4 (dk_at dksX1_pull_5 5 rfl rfl)
theorem dX1_pull_116 : decode cX1_pull 116 = .ok (.aload 4, 2) := dk_25 4 (dk_at dksX1_pull_5 6 rfl rfl)
theorem dX1_pull_118 : decode cX1_pull 118 = .ok (.iload 5, 2) := dk_21 5 (dk_at dksX1_pull_5 8 rfl rfl)
theorem dX1_pull_120 : decode cX1_pull 120 = .ok (.invokeinterface 109 2, 5) := by decide +kernel
theorem dX1_pull_125 : decode cX1_pull 125 = .ok (.checkcast 172, 3) := dk_192 0 172 (dk_at dksX1_pull_5 15 rfl rfl)
theorem dX1_pull_128 : decode cX1_pull 128 = .ok (.invokevirtual 200, 3) := dk_182 0 200 (dk_at dksX1_pull_5 18 rfl rfl)
theorem dX1_pull_131 : decode cX1_pull 131 = .ok (.ishl, 1) := dk_120 (dk_at dksX1_pull_5 21 rfl rfl)
theorem dX1_pull_132 : decode cX1_pull 132 = .ok (.ior, 1) := dk_128 (dk_at dksX1_pull_5 22 rfl rfl)
theorem dX1_pull_133 : decode cX1_pull 133 = .ok (.putfield 151, 3) := dk_181 0 151 (dk_at dksX1_pull_6 0 rfl rfl)
theorem dX1_pull_136 : decode cX1_pull 136 = .ok (.iload_n 3, 1) := dk_29 (dk_at dksX1_pull_6 3 rfl rfl)
theorem dX1_pull_137 : decode cX1_pull 137 = .ok (.iload 6, 2) := dk_21 6 (dk_at dksX1_pull_6 4 rfl rfl)
theorem dX1_pull_139 : decode cX1_pull 139 = .ok (.ifCond .eq 7, 3) := dk_153 0 7 (dk_at dksX1_pull_6 6 rfl rfl)
theorem dX1_pull_142 : decode cX1_pull 142 = .ok (.iconst 1, 1) := dk_4 (dk_at dksX1_pull_6 9 rfl rfl)
theorem dX1_pull_143 : decode cX1_pull 143 = .ok (.goto 4, 3) := dk_167 0 4 (dk_at dksX1_pull_6 10 rfl rfl)
theorem dX1_pull_146 : decode cX1_pull 146 = .ok (.iconst 0, 1) := dk_3 (dk_at dksX1_pull_6 13 rfl rfl)
theorem dX1_pull_147 : decode cX1_pull 147 = .ok (.isub, 1) := dk_100 (dk_at dksX1_pull_6 14 rfl rfl)
theorem dX1_pull_148 : decode cX1_pull 148 = .ok (.istore_n 3, 1) := dk_62 (dk_at dksX1_pull_6 15 rfl rfl)
theorem dX1_pull_149 : decode cX1_pull 149 = .ok (.iinc 5 1, 3) := dk_132 5 1 (dk_at dksX1_pull_6 16 rfl rfl)
theorem dX1_pull_152 : decode cX1_pull 152 = .ok (.goto (-90), 3) := dk_167 255 166 (dk_at dksX1_pull_6 19 rfl rfl)
theorem dX1_pull_155 : decode cX1_pull 155 = .ok (.aload_n 0, 1) := dk_42 (dk_at dksX1_pull_6 22 rfl rfl)
theorem dX1_pull_156 : decode cX1_pull 156 = .ok (.iload_n 1, 1) := dk_27 (dk_at dksX1_pull_6 23 rfl rfl)
theorem dX1_pull_157 : decode cX1_pull 157 = .ok (.invokevirtual 260, 3) := dk_182 1 4 (dk_at dksX1_pull_7 0 rfl rfl)
theorem dX1_pull_160 : decode cX1_pull 160 = .ok (.aload_n 0, 1) := dk_42 (dk_at dksX1_pull_7 3 rfl rfl)
theorem dX1_pull_161 : decode cX1_pull 161 = .ok (.getfield 151, 3) := dk_180 0 151 (dk_at dksX1_pull_7 4 rfl rfl)
theorem dX1_pull_164 : decode cX1_pull 164 = .ok (.iconst (-1), 1) := dk_2 (dk_at dksX1_pull_7 7 rfl rfl)
theorem dX1_pull_165 : decode cX1_pull 165 = .ok (.ixor, 1) := dk_130 (dk_at dksX1_pull_7 8 rfl rfl)
theorem dX1_pull_166 : decode cX1_pull 166 = .ok (.iand, 1) := dk_126 (dk_at dksX1_pull_7 9 rfl rfl)
theorem dX1_pull_167 : decode cX1_pull 167 = .ok (.invokestatic 473, 3) := dk_184 1 217 (dk_at dksX1_pull_7 10 rfl rfl)
theorem dX1_pull_170 : decode cX1_pull 170 = .ok (.ireturn, 1) := dk_172 (dk_at dksX1_pull_7 13 rfl rfl)
abbrev cX1_forget : ByteArray := prog_1_method_80_code
def yX1_forget : MethodName := ⟨RX1, "forget", "(I)Z"⟩
def dkwX1_forget_2 : List UInt8 := [172]
abbrev dktX1_forget_2 : List UInt8 := dkwX1_forget_2 ++ []
def dkwX1_forget_1 : List UInt8 := [160, 0, 7, 4, 167, 0, 4, 3, 61, 42, 89, 180, 1, 220, 4, 27, 120, 2, 130, 126, 181, 1, 220, 28]
abbrev dktX1_forget_1 : List UInt8 := dkwX1_forget_1 ++ dktX1_forget_2
def dkwX1_forget_0 : List UInt8 := [27, 42, 180, 0, 27, 185, 0, 105, 1, 0, 184, 0, 191, 42, 180, 1, 220, 27, 122, 4, 126, 4]
abbrev dktX1_forget_0 : List UInt8 := dkwX1_forget_0 ++ dktX1_forget_1
theorem dksX1_forget_0 : cX1_forget.data.toList.drop 0 = dktX1_forget_0 := by decide +kernel
theorem dksX1_forget_1 : cX1_forget.data.toList.drop 22 = dktX1_forget_1 := dk_seg dksX1_forget_0 22 rfl rfl
theorem dksX1_forget_2 : cX1_forget.data.toList.drop 46 = dktX1_forget_2 := dk_seg dksX1_forget_1 24 rfl rfl
theorem dX1_forget_0 : decode cX1_forget 0 = .ok (.iload_n 1, 1) := dk_27 (dk_at dksX1_forget_0 0 rfl rfl)
theorem dX1_forget_1 : decode cX1_forget 1 = .ok (.aload_n 0, 1) := dk_42 (dk_at dksX1_forget_0 1 rfl rfl)
theorem dX1_forget_2 : decode cX1_forget 2 = .ok (.getfield 27, 3) := dk_180 0 27 (dk_at dksX1_forget_0 2 rfl rfl)
theorem dX1_forget_5 : decode cX1_forget 5 = .ok (.invokeinterface 105 1, 5) := by decide +kernel
theorem dX1_forget_10 : decode cX1_forget 10 = .ok (.invokestatic 191, 3) := dk_184 0 191 (dk_at dksX1_forget_0 10 rfl rfl)
theorem dX1_forget_13 : decode cX1_forget 13 = .ok (.aload_n 0, 1) := dk_42 (dk_at dksX1_forget_0 13 rfl rfl)
theorem dX1_forget_14 : decode cX1_forget 14 = .ok (.getfield 476, 3) := dk_180 1 220 (dk_at dksX1_forget_0 14 rfl rfl)
theorem dX1_forget_17 : decode cX1_forget 17 = .ok (.iload_n 1, 1) := dk_27 (dk_at dksX1_forget_0 17 rfl rfl)
theorem dX1_forget_18 : decode cX1_forget 18 = .ok (.ishr, 1) := dk_122 (dk_at dksX1_forget_0 18 rfl rfl)
theorem dX1_forget_19 : decode cX1_forget 19 = .ok (.iconst 1, 1) := dk_4 (dk_at dksX1_forget_0 19 rfl rfl)
theorem dX1_forget_20 : decode cX1_forget 20 = .ok (.iand, 1) := dk_126 (dk_at dksX1_forget_0 20 rfl rfl)
theorem dX1_forget_21 : decode cX1_forget 21 = .ok (.iconst 1, 1) := dk_4 (dk_at dksX1_forget_0 21 rfl rfl)
theorem dX1_forget_22 : decode cX1_forget 22 = .ok (.if_icmp .ne 7, 3) := dk_160 0 7 (dk_at dksX1_forget_1 0 rfl rfl)
theorem dX1_forget_25 : decode cX1_forget 25 = .ok (.iconst 1, 1) := dk_4 (dk_at dksX1_forget_1 3 rfl rfl)
theorem dX1_forget_26 : decode cX1_forget 26 = .ok (.goto 4, 3) := dk_167 0 4 (dk_at dksX1_forget_1 4 rfl rfl)
theorem dX1_forget_29 : decode cX1_forget 29 = .ok (.iconst 0, 1) := dk_3 (dk_at dksX1_forget_1 7 rfl rfl)
theorem dX1_forget_30 : decode cX1_forget 30 = .ok (.istore_n 2, 1) := dk_61 (dk_at dksX1_forget_1 8 rfl rfl)
theorem dX1_forget_31 : decode cX1_forget 31 = .ok (.aload_n 0, 1) := dk_42 (dk_at dksX1_forget_1 9 rfl rfl)
theorem dX1_forget_32 : decode cX1_forget 32 = .ok (.dup, 1) := dk_89 (dk_at dksX1_forget_1 10 rfl rfl)
theorem dX1_forget_33 : decode cX1_forget 33 = .ok (.getfield 476, 3) := dk_180 1 220 (dk_at dksX1_forget_1 11 rfl rfl)
theorem dX1_forget_36 : decode cX1_forget 36 = .ok (.iconst 1, 1) := dk_4 (dk_at dksX1_forget_1 14 rfl rfl)
theorem dX1_forget_37 : decode cX1_forget 37 = .ok (.iload_n 1, 1) := dk_27 (dk_at dksX1_forget_1 15 rfl rfl)
theorem dX1_forget_38 : decode cX1_forget 38 = .ok (.ishl, 1) := dk_120 (dk_at dksX1_forget_1 16 rfl rfl)
theorem dX1_forget_39 : decode cX1_forget 39 = .ok (.iconst (-1), 1) := dk_2 (dk_at dksX1_forget_1 17 rfl rfl)
theorem dX1_forget_40 : decode cX1_forget 40 = .ok (.ixor, 1) := dk_130 (dk_at dksX1_forget_1 18 rfl rfl)
theorem dX1_forget_41 : decode cX1_forget 41 = .ok (.iand, 1) := dk_126 (dk_at dksX1_forget_1 19 rfl rfl)
theorem dX1_forget_42 : decode cX1_forget 42 = .ok (.putfield 476, 3) := dk_181 1 220 (dk_at dksX1_forget_1 20 rfl rfl)
theorem dX1_forget_45 : decode cX1_forget 45 = .ok (.iload_n 2, 1) := dk_28 (dk_at dksX1_forget_1 23 rfl rfl)
theorem dX1_forget_46 : decode cX1_forget 46 = .ok (.ireturn, 1) := dk_172 (dk_at dksX1_forget_2 0 rfl rfl)
abbrev cX1_service : ByteArray := prog_1_method_84_code
def yX1_service : MethodName := ⟨RX1, "service", "(I)I"⟩
def dkwX1_service_2 : List UInt8 := [180, 0, 56, 185, 0, 105, 1, 0, 4, 100, 172]
abbrev dktX1_service_2 : List UInt8 := dkwX1_service_2 ++ []
def dkwX1_service_1 : List UInt8 := [3, 184, 0, 136, 42, 180, 0, 56, 187, 1, 223, 89, 27, 183, 1, 226, 185, 0, 76, 2, 0, 87, 42]
abbrev dktX1_service_1 : List UInt8 := dkwX1_service_1 ++ dktX1_service_2
def dkwX1_service_0 : List UInt8 := [27, 3, 16, 9, 184, 0, 125, 42, 180, 0, 56, 185, 0, 105, 1, 0, 6, 162, 0, 7, 4, 167, 0, 4]
abbrev dktX1_service_0 : List UInt8 := dkwX1_service_0 ++ dktX1_service_1
theorem dksX1_service_0 : cX1_service.data.toList.drop 0 = dktX1_service_0 := by decide +kernel
theorem dksX1_service_1 : cX1_service.data.toList.drop 24 = dktX1_service_1 := dk_seg dksX1_service_0 24 rfl rfl
theorem dksX1_service_2 : cX1_service.data.toList.drop 47 = dktX1_service_2 := dk_seg dksX1_service_1 23 rfl rfl
theorem dX1_service_0 : decode cX1_service 0 = .ok (.iload_n 1, 1) := dk_27 (dk_at dksX1_service_0 0 rfl rfl)
theorem dX1_service_1 : decode cX1_service 1 = .ok (.iconst 0, 1) := dk_3 (dk_at dksX1_service_0 1 rfl rfl)
theorem dX1_service_2 : decode cX1_service 2 = .ok (.bipush 9, 2) := dk_16 9 (dk_at dksX1_service_0 2 rfl rfl)
theorem dX1_service_4 : decode cX1_service 4 = .ok (.invokestatic 125, 3) := dk_184 0 125 (dk_at dksX1_service_0 4 rfl rfl)
theorem dX1_service_7 : decode cX1_service 7 = .ok (.aload_n 0, 1) := dk_42 (dk_at dksX1_service_0 7 rfl rfl)
theorem dX1_service_8 : decode cX1_service 8 = .ok (.getfield 56, 3) := dk_180 0 56 (dk_at dksX1_service_0 8 rfl rfl)
theorem dX1_service_11 : decode cX1_service 11 = .ok (.invokeinterface 105 1, 5) := by decide +kernel
theorem dX1_service_16 : decode cX1_service 16 = .ok (.iconst 3, 1) := dk_6 (dk_at dksX1_service_0 16 rfl rfl)
theorem dX1_service_17 : decode cX1_service 17 = .ok (.if_icmp .ge 7, 3) := dk_162 0 7 (dk_at dksX1_service_0 17 rfl rfl)
theorem dX1_service_20 : decode cX1_service 20 = .ok (.iconst 1, 1) := dk_4 (dk_at dksX1_service_0 20 rfl rfl)
theorem dX1_service_21 : decode cX1_service 21 = .ok (.goto 4, 3) := dk_167 0 4 (dk_at dksX1_service_0 21 rfl rfl)
theorem dX1_service_24 : decode cX1_service 24 = .ok (.iconst 0, 1) := dk_3 (dk_at dksX1_service_1 0 rfl rfl)
theorem dX1_service_25 : decode cX1_service 25 = .ok (.invokestatic 136, 3) := dk_184 0 136 (dk_at dksX1_service_1 1 rfl rfl)
theorem dX1_service_28 : decode cX1_service 28 = .ok (.aload_n 0, 1) := dk_42 (dk_at dksX1_service_1 4 rfl rfl)
theorem dX1_service_29 : decode cX1_service 29 = .ok (.getfield 56, 3) := dk_180 0 56 (dk_at dksX1_service_1 5 rfl rfl)
theorem dX1_service_32 : decode cX1_service 32 = .ok (.new 479, 3) := dk_187 1 223 (dk_at dksX1_service_1 8 rfl rfl)
theorem dX1_service_35 : decode cX1_service 35 = .ok (.dup, 1) := dk_89 (dk_at dksX1_service_1 11 rfl rfl)
theorem dX1_service_36 : decode cX1_service 36 = .ok (.iload_n 1, 1) := dk_27 (dk_at dksX1_service_1 12 rfl rfl)
theorem dX1_service_37 : decode cX1_service 37 = .ok (.invokespecial 482, 3) := dk_183 1 226 (dk_at dksX1_service_1 13 rfl rfl)
theorem dX1_service_40 : decode cX1_service 40 = .ok (.invokeinterface 76 2, 5) := by decide +kernel
theorem dX1_service_45 : decode cX1_service 45 = .ok (.pop, 1) := dk_87 (dk_at dksX1_service_1 21 rfl rfl)
theorem dX1_service_46 : decode cX1_service 46 = .ok (.aload_n 0, 1) := dk_42 (dk_at dksX1_service_1 22 rfl rfl)
theorem dX1_service_47 : decode cX1_service 47 = .ok (.getfield 56, 3) := dk_180 0 56 (dk_at dksX1_service_2 0 rfl rfl)
theorem dX1_service_50 : decode cX1_service 50 = .ok (.invokeinterface 105 1, 5) := by decide +kernel
theorem dX1_service_55 : decode cX1_service 55 = .ok (.iconst 1, 1) := dk_4 (dk_at dksX1_service_2 8 rfl rfl)
theorem dX1_service_56 : decode cX1_service 56 = .ok (.isub, 1) := dk_100 (dk_at dksX1_service_2 9 rfl rfl)
theorem dX1_service_57 : decode cX1_service 57 = .ok (.ireturn, 1) := dk_172 (dk_at dksX1_service_2 10 rfl rfl)
abbrev cX1_wish : ByteArray := prog_1_method_85_code
def yX1_wish : MethodName := ⟨RX1, "wish", "(III)V"⟩
def dkwX1_wish_3 : List UInt8 := [181, 1, 230, 25, 4, 28, 181, 1, 225, 25, 4, 3, 181, 1, 233, 177]
abbrev dktX1_wish_3 : List UInt8 := dkwX1_wish_3 ++ []
def dkwX1_wish_2 : List UInt8 := [25, 4, 29, 181, 1, 227, 25, 4, 180, 1, 225, 28, 159, 0, 25, 25, 4, 25, 4, 180, 1, 225]
abbrev dktX1_wish_2 : List UInt8 := dkwX1_wish_2 ++ dktX1_wish_3
def dkwX1_wish_1 : List UInt8 := [184, 0, 191, 29, 3, 7, 184, 0, 125, 42, 180, 0, 56, 27, 185, 0, 109, 2, 0, 192, 1, 223, 58, 4]
abbrev dktX1_wish_1 : List UInt8 := dkwX1_wish_1 ++ dktX1_wish_2
def dkwX1_wish_0 : List UInt8 := [27, 42, 180, 0, 56, 185, 0, 105, 1, 0, 184, 0, 191, 28, 42, 180, 0, 27, 185, 0, 105, 1, 0]
abbrev dktX1_wish_0 : List UInt8 := dkwX1_wish_0 ++ dktX1_wish_1
theorem dksX1_wish_0 : cX1_wish.data.toList.drop 0 = dktX1_wish_0 := by decide +kernel
theorem dksX1_wish_1 : cX1_wish.data.toList.drop 23 = dktX1_wish_1 := dk_seg dksX1_wish_0 23 rfl rfl
theorem dksX1_wish_2 : cX1_wish.data.toList.drop 47 = dktX1_wish_2 := dk_seg dksX1_wish_1 24 rfl rfl
theorem dksX1_wish_3 : cX1_wish.data.toList.drop 69 = dktX1_wish_3 := dk_seg dksX1_wish_2 22 rfl rfl
theorem dX1_wish_0 : decode cX1_wish 0 = .ok (.iload_n 1, 1) := dk_27 (dk_at dksX1_wish_0 0 rfl rfl)
theorem dX1_wish_1 : decode cX1_wish 1 = .ok (.aload_n 0, 1) := dk_42 (dk_at dksX1_wish_0 1 rfl rfl)
theorem dX1_wish_2 : decode cX1_wish 2 = .ok (.getfield 56, 3) := dk_180 0 56 (dk_at dksX1_wish_0 2 rfl rfl)
theorem dX1_wish_5 : decode cX1_wish 5 = .ok (.invokeinterface 105 1, 5) := by decide +kernel
theorem dX1_wish_10 : decode cX1_wish 10 = .ok (.invokestatic 191, 3) := dk_184 0 191 (dk_at dksX1_wish_0 10 rfl rfl)
theorem dX1_wish_13 : decode cX1_wish 13 = .ok (.iload_n 2, 1) := dk_28 (dk_at dksX1_wish_0 13 rfl rfl)
theorem dX1_wish_14 : decode cX1_wish 14 = .ok (.aload_n 0, 1) := dk_42 (dk_at dksX1_wish_0 14 rfl rfl)
theorem dX1_wish_15 : decode cX1_wish 15 = .ok (.getfield 27, 3) := dk_180 0 27 (dk_at dksX1_wish_0 15 rfl rfl)
theorem dX1_wish_18 : decode cX1_wish 18 = .ok (.invokeinterface 105 1, 5) := by decide +kernel
theorem dX1_wish_23 : decode cX1_wish 23 = .ok (.invokestatic 191, 3) := dk_184 0 191 (dk_at dksX1_wish_1 0 rfl rfl)
theorem dX1_wish_26 : decode cX1_wish 26 = .ok (.iload_n 3, 1) := dk_29 (dk_at dksX1_wish_1 3 rfl rfl)
theorem dX1_wish_27 : decode cX1_wish 27 = .ok (.iconst 0, 1) := dk_3 (dk_at dksX1_wish_1 4 rfl rfl)
theorem dX1_wish_28 : decode cX1_wish 28 = .ok (.iconst 4, 1) := dk_7 (dk_at dksX1_wish_1 5 rfl rfl)
theorem dX1_wish_29 : decode cX1_wish 29 = .ok (.invokestatic 125, 3) := dk_184 0 125 (dk_at dksX1_wish_1 6 rfl rfl)
theorem dX1_wish_32 : decode cX1_wish 32 = .ok (.aload_n 0, 1) := dk_42 (dk_at dksX1_wish_1 9 rfl rfl)
theorem dX1_wish_33 : decode cX1_wish 33 = .ok (.getfield 56, 3) := dk_180 0 56 (dk_at dksX1_wish_1 10 rfl rfl)
theorem dX1_wish_36 : decode cX1_wish 36 = .ok (.iload_n 1, 1) := dk_27 (dk_at dksX1_wish_1 13 rfl rfl)
theorem dX1_wish_37 : decode cX1_wish 37 = .ok (.invokeinterface 109 2, 5) := by decide +kernel
theorem dX1_wish_42 : decode cX1_wish 42 = .ok (.checkcast 479, 3) := dk_192 1 223 (dk_at dksX1_wish_1 19 rfl rfl)
theorem dX1_wish_45 : decode cX1_wish 45 = .ok (.astore 4, 2) := dk_58 4 (dk_at dksX1_wish_1 22 rfl rfl)
theorem dX1_wish_47 : decode cX1_wish 47 = .ok (.aload 4, 2) := dk_25 4 (dk_at dksX1_wish_2 0 rfl rfl)
theorem dX1_wish_49 : decode cX1_wish 49 = .ok (.iload_n 3, 1) := dk_29 (dk_at dksX1_wish_2 2 rfl rfl)
theorem dX1_wish_50 : decode cX1_wish 50 = .ok (.putfield 483, 3) := dk_181 1 227 (dk_at dksX1_wish_2 3 rfl rfl)
theorem dX1_wish_53 : decode cX1_wish 53 = .ok (.aload 4, 2) := dk_25 4 (dk_at dksX1_wish_2 6 rfl rfl)
theorem dX1_wish_55 : decode cX1_wish 55 = .ok (.getfield 481, 3) := dk_180 1 225 (dk_at dksX1_wish_2 8 rfl rfl)
theorem dX1_wish_58 : decode cX1_wish 58 = .ok (.iload_n 2, 1) := dk_28 (dk_at dksX1_wish_2 11 rfl rfl)
theorem dX1_wish_59 : decode cX1_wish 59 = .ok (.if_icmp .eq 25, 3) := dk_159 0 25 (dk_at dksX1_wish_2 12 rfl rfl)
theorem dX1_wish_62 : decode cX1_wish 62 = .ok (.aload 4, 2) := dk_25 4 (dk_at dksX1_wish_2 15 rfl rfl)
theorem dX1_wish_64 : decode cX1_wish 64 = .ok (.aload 4, 2) := dk_25 4 (dk_at dksX1_wish_2 17 rfl rfl)
theorem dX1_wish_66 : decode cX1_wish 66 = .ok (.getfield 481, 3) := dk_180 1 225 (dk_at dksX1_wish_2 19 rfl rfl)
theorem dX1_wish_69 : decode cX1_wish 69 = .ok (.putfield 486, 3) := dk_181 1 230 (dk_at dksX1_wish_3 0 rfl rfl)
theorem dX1_wish_72 : decode cX1_wish 72 = .ok (.aload 4, 2) := dk_25 4 (dk_at dksX1_wish_3 3 rfl rfl)
theorem dX1_wish_74 : decode cX1_wish 74 = .ok (.iload_n 2, 1) := dk_28 (dk_at dksX1_wish_3 5 rfl rfl)
theorem dX1_wish_75 : decode cX1_wish 75 = .ok (.putfield 481, 3) := dk_181 1 225 (dk_at dksX1_wish_3 6 rfl rfl)
theorem dX1_wish_78 : decode cX1_wish 78 = .ok (.aload 4, 2) := dk_25 4 (dk_at dksX1_wish_3 9 rfl rfl)
theorem dX1_wish_80 : decode cX1_wish 80 = .ok (.iconst 0, 1) := dk_3 (dk_at dksX1_wish_3 11 rfl rfl)
theorem dX1_wish_81 : decode cX1_wish 81 = .ok (.putfield 489, 3) := dk_181 1 233 (dk_at dksX1_wish_3 12 rfl rfl)
theorem dX1_wish_84 : decode cX1_wish 84 = .ok (.return_, 1) := dk_177 (dk_at dksX1_wish_3 15 rfl rfl)
abbrev cX1_serviceHas : ByteArray := prog_1_method_87_code
def yX1_serviceHas : MethodName := ⟨RX1, "serviceHas", "(II)I"⟩
def dkwX1_serviceHas_5 : List UInt8 := [172]
abbrev dktX1_serviceHas_5 : List UInt8 := dkwX1_serviceHas_5 ++ []
def dkwX1_serviceHas_4 : List UInt8 := [180, 1, 233, 167, 0, 21, 42, 27, 2, 182, 1, 239, 167, 0, 12, 42, 27, 45, 180, 1, 225, 182, 1, 239]
abbrev dktX1_serviceHas_4 : List UInt8 := dkwX1_serviceHas_4 ++ dktX1_serviceHas_5
def dkwX1_serviceHas_3 : List UInt8 := [45, 180, 1, 225, 167, 0, 42, 45, 180, 1, 230, 167, 0, 35, 45, 180, 1, 227, 167, 0, 28, 45]
abbrev dktX1_serviceHas_3 : List UInt8 := dkwX1_serviceHas_3 ++ dktX1_serviceHas_4
def dkwX1_serviceHas_2 : List UInt8 := [170, 0, 0, 0, 0, 71, 0, 0, 0, 0, 0, 0, 0, 4, 0, 0, 0, 34, 0, 0, 0, 41, 0, 0, 0, 48, 0, 0, 0, 55, 0, 0, 0, 62]
abbrev dktX1_serviceHas_2 : List UInt8 := dkwX1_serviceHas_2 ++ dktX1_serviceHas_3
def dkwX1_serviceHas_1 : List UInt8 := [185, 0, 109, 2, 0, 192, 1, 223, 78, 28]
abbrev dktX1_serviceHas_1 : List UInt8 := dkwX1_serviceHas_1 ++ dktX1_serviceHas_2
def dkwX1_serviceHas_0 : List UInt8 := [27, 42, 180, 0, 56, 185, 0, 105, 1, 0, 184, 0, 191, 28, 3, 8, 184, 0, 125, 42, 180, 0, 56, 27]
abbrev dktX1_serviceHas_0 : List UInt8 := dkwX1_serviceHas_0 ++ dktX1_serviceHas_1
theorem dksX1_serviceHas_0 : cX1_serviceHas.data.toList.drop 0 = dktX1_serviceHas_0 := by decide +kernel
theorem dksX1_serviceHas_1 : cX1_serviceHas.data.toList.drop 24 = dktX1_serviceHas_1 := dk_seg dksX1_serviceHas_0 24 rfl rfl
theorem dksX1_serviceHas_2 : cX1_serviceHas.data.toList.drop 34 = dktX1_serviceHas_2 := dk_seg dksX1_serviceHas_1 10 rfl rfl
theorem dksX1_serviceHas_3 : cX1_serviceHas.data.toList.drop 68 = dktX1_serviceHas_3 := dk_seg dksX1_serviceHas_2 34 rfl rfl
theorem dksX1_serviceHas_4 : cX1_serviceHas.data.toList.drop 90 = dktX1_serviceHas_4 := dk_seg dksX1_serviceHas_3 22 rfl rfl
theorem dksX1_serviceHas_5 : cX1_serviceHas.data.toList.drop 114 = dktX1_serviceHas_5 := dk_seg dksX1_serviceHas_4 24 rfl rfl
theorem dX1_serviceHas_0 : decode cX1_serviceHas 0 = .ok (.iload_n 1, 1) := dk_27 (dk_at dksX1_serviceHas_0 0 rfl rfl)
theorem dX1_serviceHas_1 : decode cX1_serviceHas 1 = .ok (.aload_n 0, 1) := dk_42 (dk_at dksX1_serviceHas_0 1 rfl rfl)
theorem dX1_serviceHas_2 : decode cX1_serviceHas 2 = .ok (.getfield 56, 3) := dk_180 0 56 (dk_at dksX1_serviceHas_0 2 rfl rfl)
theorem dX1_serviceHas_5 : decode cX1_serviceHas 5 = .ok (.invokeinterface 105 1, 5) := by decide +kernel
theorem dX1_serviceHas_10 : decode cX1_serviceHas 10 = .ok (.invokestatic 191, 3) := dk_184 0 191 (dk_at dksX1_serviceHas_0 10 rfl rfl)
theorem dX1_serviceHas_13 : decode cX1_serviceHas 13 = .ok (.iload_n 2, 1) := dk_28 (dk_at dksX1_serviceHas_0 13 rfl rfl)
theorem dX1_serviceHas_14 : decode cX1_serviceHas 14 = .ok (.iconst 0, 1) := dk_3 (dk_at dksX1_serviceHas_0 14 rfl rfl)
theorem dX1_serviceHas_15 : decode cX1_serviceHas 15 = .ok (.iconst 5, 1) := dk_8 (dk_at dksX1_serviceHas_0 15 rfl rfl)
theorem dX1_serviceHas_16 : decode cX1_serviceHas 16 = .ok (.invokestatic 125, 3) := dk_184 0 125 (dk_at dksX1_serviceHas_0 16 rfl rfl)
theorem dX1_serviceHas_19 : decode cX1_serviceHas 19 = .ok (.aload_n 0, 1) := dk_42 (dk_at dksX1_serviceHas_0 19 rfl rfl)
theorem dX1_serviceHas_20 : decode cX1_serviceHas 20 = .ok (.getfield 56, 3) := dk_180 0 56 (dk_at dksX1_serviceHas_0 20 rfl rfl)
theorem dX1_serviceHas_23 : decode cX1_serviceHas 23 = .ok (.iload_n 1, 1) := dk_27 (dk_at dksX1_serviceHas_0 23 rfl rfl)
theorem dX1_serviceHas_24 : decode cX1_serviceHas 24 = .ok (.invokeinterface 109 2, 5) := by decide +kernel
theorem dX1_serviceHas_29 : decode cX1_serviceHas 29 = .ok (.checkcast 479, 3) := dk_192 1 223 (dk_at dksX1_serviceHas_1 5 rfl rfl)
theorem dX1_serviceHas_32 : decode cX1_serviceHas 32 = .ok (.astore_n 3, 1) := dk_78 (dk_at dksX1_serviceHas_1 8 rfl rfl)
theorem dX1_serviceHas_33 : decode cX1_serviceHas 33 = .ok (.iload_n 2, 1) := dk_28 (dk_at dksX1_serviceHas_1 9 rfl rfl)
theorem dX1_serviceHas_34 : decode cX1_serviceHas 34 = .ok (.tableswitch 71 0 4 #[34, 41, 48, 55, 62], 34) := by decide +kernel
theorem dX1_serviceHas_68 : decode cX1_serviceHas 68 = .ok (.aload_n 3, 1) := dk_45 (dk_at dksX1_serviceHas_3 0 rfl rfl)
theorem dX1_serviceHas_69 : decode cX1_serviceHas 69 = .ok (.getfield 481, 3) := dk_180 1 225 (dk_at dksX1_serviceHas_3 1 rfl rfl)
theorem dX1_serviceHas_72 : decode cX1_serviceHas 72 = .ok (.goto 42, 3) := dk_167 0 42 (dk_at dksX1_serviceHas_3 4 rfl rfl)
theorem dX1_serviceHas_75 : decode cX1_serviceHas 75 = .ok (.aload_n 3, 1) := dk_45 (dk_at dksX1_serviceHas_3 7 rfl rfl)
theorem dX1_serviceHas_76 : decode cX1_serviceHas 76 = .ok (.getfield 486, 3) := dk_180 1 230 (dk_at dksX1_serviceHas_3 8 rfl rfl)
theorem dX1_serviceHas_79 : decode cX1_serviceHas 79 = .ok (.goto 35, 3) := dk_167 0 35 (dk_at dksX1_serviceHas_3 11 rfl rfl)
theorem dX1_serviceHas_82 : decode cX1_serviceHas 82 = .ok (.aload_n 3, 1) := dk_45 (dk_at dksX1_serviceHas_3 14 rfl rfl)
theorem dX1_serviceHas_83 : decode cX1_serviceHas 83 = .ok (.getfield 483, 3) := dk_180 1 227 (dk_at dksX1_serviceHas_3 15 rfl rfl)
theorem dX1_serviceHas_86 : decode cX1_serviceHas 86 = .ok (.goto 28, 3) := dk_167 0 28 (dk_at dksX1_serviceHas_3 18 rfl rfl)
theorem dX1_serviceHas_89 : decode cX1_serviceHas 89 = .ok (.aload_n 3, 1) := dk_45 (dk_at dksX1_serviceHas_3 21 rfl rfl)
theorem dX1_serviceHas_90 : decode cX1_serviceHas 90 = .ok (.getfield 489, 3) := dk_180 1 233 (dk_at dksX1_serviceHas_4 0 rfl rfl)
theorem dX1_serviceHas_93 : decode cX1_serviceHas 93 = .ok (.goto 21, 3) := dk_167 0 21 (dk_at dksX1_serviceHas_4 3 rfl rfl)
theorem dX1_serviceHas_96 : decode cX1_serviceHas 96 = .ok (.aload_n 0, 1) := dk_42 (dk_at dksX1_serviceHas_4 6 rfl rfl)
theorem dX1_serviceHas_97 : decode cX1_serviceHas 97 = .ok (.iload_n 1, 1) := dk_27 (dk_at dksX1_serviceHas_4 7 rfl rfl)
theorem dX1_serviceHas_98 : decode cX1_serviceHas 98 = .ok (.iconst (-1), 1) := dk_2 (dk_at dksX1_serviceHas_4 8 rfl rfl)
theorem dX1_serviceHas_99 : decode cX1_serviceHas 99 = .ok (.invokevirtual 495, 3) := dk_182 1 239 (dk_at dksX1_serviceHas_4 9 rfl rfl)
theorem dX1_serviceHas_102 : decode cX1_serviceHas 102 = .ok (.goto 12, 3) := dk_167 0 12 (dk_at dksX1_serviceHas_4 12 rfl rfl)
theorem dX1_serviceHas_105 : decode cX1_serviceHas 105 = .ok (.aload_n 0, 1) := dk_42 (dk_at dksX1_serviceHas_4 15 rfl rfl)
theorem dX1_serviceHas_106 : decode cX1_serviceHas 106 = .ok (.iload_n 1, 1) := dk_27 (dk_at dksX1_serviceHas_4 16 rfl rfl)
theorem dX1_serviceHas_107 : decode cX1_serviceHas 107 = .ok (.aload_n 3, 1) := dk_45 (dk_at dksX1_serviceHas_4 17 rfl rfl)
theorem dX1_serviceHas_108 : decode cX1_serviceHas 108 = .ok (.getfield 481, 3) := dk_180 1 225 (dk_at dksX1_serviceHas_4 18 rfl rfl)
theorem dX1_serviceHas_111 : decode cX1_serviceHas 111 = .ok (.invokevirtual 495, 3) := dk_182 1 239 (dk_at dksX1_serviceHas_4 21 rfl rfl)
theorem dX1_serviceHas_114 : decode cX1_serviceHas 114 = .ok (.ireturn, 1) := dk_172 (dk_at dksX1_serviceHas_5 0 rfl rfl)
abbrev cX1_manyOf : ByteArray := prog_1_method_86_code
def yX1_manyOf : MethodName := ⟨RX1, "manyOf", "(II)I"⟩
def dkwX1_manyOf_3 : List UInt8 := [167, 255, 192, 29, 172]
abbrev dktX1_manyOf_3 : List UInt8 := dkwX1_manyOf_3 ++ []
def dkwX1_manyOf_2 : List UInt8 := [159, 0, 12, 25, 5, 180, 1, 30, 28, 160, 0, 7, 4, 167, 0, 4, 3, 96, 62, 132, 4, 1]
abbrev dktX1_manyOf_2 : List UInt8 := dkwX1_manyOf_2 ++ dktX1_manyOf_3
def dkwX1_manyOf_1 : List UInt8 := [21, 4, 185, 0, 109, 2, 0, 192, 0, 113, 58, 5, 29, 25, 5, 180, 1, 236, 27, 160, 0, 21, 28, 2]
abbrev dktX1_manyOf_1 : List UInt8 := dkwX1_manyOf_1 ++ dktX1_manyOf_2
def dkwX1_manyOf_0 : List UInt8 := [3, 62, 3, 54, 4, 21, 4, 42, 180, 0, 30, 185, 0, 105, 1, 0, 162, 0, 56, 42, 180, 0, 30]
abbrev dktX1_manyOf_0 : List UInt8 := dkwX1_manyOf_0 ++ dktX1_manyOf_1
theorem dksX1_manyOf_0 : cX1_manyOf.data.toList.drop 0 = dktX1_manyOf_0 := by decide +kernel
theorem dksX1_manyOf_1 : cX1_manyOf.data.toList.drop 23 = dktX1_manyOf_1 := dk_seg dksX1_manyOf_0 23 rfl rfl
theorem dksX1_manyOf_2 : cX1_manyOf.data.toList.drop 47 = dktX1_manyOf_2 := dk_seg dksX1_manyOf_1 24 rfl rfl
theorem dksX1_manyOf_3 : cX1_manyOf.data.toList.drop 69 = dktX1_manyOf_3 := dk_seg dksX1_manyOf_2 22 rfl rfl
theorem dX1_manyOf_0 : decode cX1_manyOf 0 = .ok (.iconst 0, 1) := dk_3 (dk_at dksX1_manyOf_0 0 rfl rfl)
theorem dX1_manyOf_1 : decode cX1_manyOf 1 = .ok (.istore_n 3, 1) := dk_62 (dk_at dksX1_manyOf_0 1 rfl rfl)
theorem dX1_manyOf_2 : decode cX1_manyOf 2 = .ok (.iconst 0, 1) := dk_3 (dk_at dksX1_manyOf_0 2 rfl rfl)
theorem dX1_manyOf_3 : decode cX1_manyOf 3 = .ok (.istore 4, 2) := dk_54 4 (dk_at dksX1_manyOf_0 3 rfl rfl)
theorem dX1_manyOf_5 : decode cX1_manyOf 5 = .ok (.iload 4, 2) := dk_21 4 (dk_at dksX1_manyOf_0 5 rfl rfl)
theorem dX1_manyOf_7 : decode cX1_manyOf 7 = .ok (.aload_n 0, 1) := dk_42 (dk_at dksX1_manyOf_0 7 rfl rfl)
theorem dX1_manyOf_8 : decode cX1_manyOf 8 = .ok (.getfield 30, 3) := dk_180 0 30 (dk_at dksX1_manyOf_0 8 rfl rfl)
theorem dX1_manyOf_11 : decode cX1_manyOf 11 = .ok (.invokeinterface 105 1, 5) := by decide +kernel
theorem dX1_manyOf_16 : decode cX1_manyOf 16 = .ok (.if_icmp .ge 56, 3) := dk_162 0 56 (dk_at dksX1_manyOf_0 16 rfl rfl)
theorem dX1_manyOf_19 : decode cX1_manyOf 19 = .ok (.aload_n 0, 1) := dk_42 (dk_at dksX1_manyOf_0 19 rfl rfl)
theorem dX1_manyOf_20 : decode cX1_manyOf 20 = .ok (.getfield 30, 3) := dk_180 0 30 (dk_at dksX1_manyOf_0 20 rfl rfl)
theorem dX1_manyOf_23 : decode cX1_manyOf 23 = .ok (.iload 4, 2) := dk_21 4 (dk_at dksX1_manyOf_1 0 rfl rfl)
theorem dX1_manyOf_25 : decode cX1_manyOf 25 = .ok (.invokeinterface 109 2, 5) := by decide +kernel
theorem dX1_manyOf_30 : decode cX1_manyOf 30 = .ok (.checkcast 113, 3) := dk_192 0 113 (dk_at dksX1_manyOf_1 7 rfl rfl)
theorem dX1_manyOf_33 : decode cX1_manyOf 33 = .ok (.astore 5, 2) := dk_58 5 (dk_at dksX1_manyOf_1 10 rfl rfl)
theorem dX1_manyOf_35 : decode cX1_manyOf 35 = .ok (.iload_n 3, 1) := dk_29 (dk_at dksX1_manyOf_1 12 rfl rfl)
theorem dX1_manyOf_36 : decode cX1_manyOf 36 = .ok (.aload 5, 2) := dk_25 5 (dk_at dksX1_manyOf_1 13 rfl rfl)
theorem dX1_manyOf_38 : decode cX1_manyOf 38 = .ok (.getfield 492, 3) := dk_180 1 236 (dk_at dksX1_manyOf_1 15 rfl rfl)
theorem dX1_manyOf_41 : decode cX1_manyOf 41 = .ok (.iload_n 1, 1) := dk_27 (dk_at dksX1_manyOf_1 18 rfl rfl)
theorem dX1_manyOf_42 : decode cX1_manyOf 42 = .ok (.if_icmp .ne 21, 3) := dk_160 0 21 (dk_at dksX1_manyOf_1 19 rfl rfl)
theorem dX1_manyOf_45 : decode cX1_manyOf 45 = .ok (.iload_n 2, 1) := dk_28 (dk_at dksX1_manyOf_1 22 rfl rfl)
theorem dX1_manyOf_46 : decode cX1_manyOf 46 = .ok (.iconst (-1), 1) := dk_2 (dk_at dksX1_manyOf_1 23 rfl rfl)
theorem dX1_manyOf_47 : decode cX1_manyOf 47 = .ok (.if_icmp .eq 12, 3) := dk_159 0 12 (dk_at dksX1_manyOf_2 0 rfl rfl)
theorem dX1_manyOf_50 : decode cX1_manyOf 50 = .ok (.aload 5, 2) := dk_25 5 (dk_at dksX1_manyOf_2 3 rfl rfl)
theorem dX1_manyOf_52 : decode cX1_manyOf 52 = .ok (.getfield 286, 3) := dk_180 1 30 (dk_at dksX1_manyOf_2 5 rfl rfl)
theorem dX1_manyOf_55 : decode cX1_manyOf 55 = .ok (.iload_n 2, 1) := dk_28 (dk_at dksX1_manyOf_2 8 rfl rfl)
theorem dX1_manyOf_56 : decode cX1_manyOf 56 = .ok (.if_icmp .ne 7, 3) := dk_160 0 7 (dk_at dksX1_manyOf_2 9 rfl rfl)
theorem dX1_manyOf_59 : decode cX1_manyOf 59 = .ok (.iconst 1, 1) := dk_4 (dk_at dksX1_manyOf_2 12 rfl rfl)
theorem dX1_manyOf_60 : decode cX1_manyOf 60 = .ok (.goto 4, 3) := dk_167 0 4 (dk_at dksX1_manyOf_2 13 rfl rfl)
theorem dX1_manyOf_63 : decode cX1_manyOf 63 = .ok (.iconst 0, 1) := dk_3 (dk_at dksX1_manyOf_2 16 rfl rfl)
theorem dX1_manyOf_64 : decode cX1_manyOf 64 = .ok (.iadd, 1) := dk_96 (dk_at dksX1_manyOf_2 17 rfl rfl)
theorem dX1_manyOf_65 : decode cX1_manyOf 65 = .ok (.istore_n 3, 1) := dk_62 (dk_at dksX1_manyOf_2 18 rfl rfl)
theorem dX1_manyOf_66 : decode cX1_manyOf 66 = .ok (.iinc 4 1, 3) := dk_132 4 1 (dk_at dksX1_manyOf_2 19 rfl rfl)
theorem dX1_manyOf_69 : decode cX1_manyOf 69 = .ok (.goto (-64), 3) := dk_167 255 192 (dk_at dksX1_manyOf_3 0 rfl rfl)
theorem dX1_manyOf_72 : decode cX1_manyOf 72 = .ok (.iload_n 3, 1) := dk_29 (dk_at dksX1_manyOf_3 3 rfl rfl)
theorem dX1_manyOf_73 : decode cX1_manyOf 73 = .ok (.ireturn, 1) := dk_172 (dk_at dksX1_manyOf_3 4 rfl rfl)
abbrev cX1_setHealth : ByteArray := prog_1_method_88_code
def yX1_setHealth : MethodName := ⟨RX1, "setHealth", "(IZ)V"⟩
def dkwX1_setHealth_0 : List UInt8 := [42, 27, 182, 1, 23, 28, 181, 1, 39, 177]
abbrev dktX1_setHealth_0 : List UInt8 := dkwX1_setHealth_0 ++ []
theorem dksX1_setHealth_0 : cX1_setHealth.data.toList.drop 0 = dktX1_setHealth_0 := by decide +kernel
theorem dX1_setHealth_0 : decode cX1_setHealth 0 = .ok (.aload_n 0, 1) := dk_42 (dk_at dksX1_setHealth_0 0 rfl rfl)
theorem dX1_setHealth_1 : decode cX1_setHealth 1 = .ok (.iload_n 1, 1) := dk_27 (dk_at dksX1_setHealth_0 1 rfl rfl)
theorem dX1_setHealth_2 : decode cX1_setHealth 2 = .ok (.invokevirtual 279, 3) := dk_182 1 23 (dk_at dksX1_setHealth_0 2 rfl rfl)
theorem dX1_setHealth_5 : decode cX1_setHealth 5 = .ok (.iload_n 2, 1) := dk_28 (dk_at dksX1_setHealth_0 5 rfl rfl)
theorem dX1_setHealth_6 : decode cX1_setHealth 6 = .ok (.putfield 295, 3) := dk_181 1 39 (dk_at dksX1_setHealth_0 6 rfl rfl)
theorem dX1_setHealth_9 : decode cX1_setHealth 9 = .ok (.return_, 1) := dk_177 (dk_at dksX1_setHealth_0 9 rfl rfl)
abbrev cX1_pass : ByteArray := prog_1_method_94_code
def yX1_pass : MethodName := ⟨RX1, "pass", "(I)I"⟩
def dkwX1_pass_2 : List UInt8 := [4, 96, 181, 2, 4, 132, 2, 1, 167, 255, 212, 42, 180, 2, 4, 172]
abbrev dktX1_pass_2 : List UInt8 := dkwX1_pass_2 ++ []
def dkwX1_pass_1 : List UInt8 := [185, 0, 105, 1, 0, 162, 0, 14, 42, 29, 182, 2, 1, 132, 3, 1, 167, 255, 235, 42, 89, 180, 2, 4]
abbrev dktX1_pass_1 : List UInt8 := dkwX1_pass_1 ++ dktX1_pass_2
def dkwX1_pass_0 : List UInt8 := [27, 4, 16, 50, 184, 0, 125, 3, 61, 28, 27, 162, 0, 45, 3, 62, 29, 42, 180, 0, 56]
abbrev dktX1_pass_0 : List UInt8 := dkwX1_pass_0 ++ dktX1_pass_1
theorem dksX1_pass_0 : cX1_pass.data.toList.drop 0 = dktX1_pass_0 := by decide +kernel
theorem dksX1_pass_1 : cX1_pass.data.toList.drop 21 = dktX1_pass_1 := dk_seg dksX1_pass_0 21 rfl rfl
theorem dksX1_pass_2 : cX1_pass.data.toList.drop 45 = dktX1_pass_2 := dk_seg dksX1_pass_1 24 rfl rfl
theorem dX1_pass_0 : decode cX1_pass 0 = .ok (.iload_n 1, 1) := dk_27 (dk_at dksX1_pass_0 0 rfl rfl)
theorem dX1_pass_1 : decode cX1_pass 1 = .ok (.iconst 1, 1) := dk_4 (dk_at dksX1_pass_0 1 rfl rfl)
theorem dX1_pass_2 : decode cX1_pass 2 = .ok (.bipush 50, 2) := dk_16 50 (dk_at dksX1_pass_0 2 rfl rfl)
theorem dX1_pass_4 : decode cX1_pass 4 = .ok (.invokestatic 125, 3) := dk_184 0 125 (dk_at dksX1_pass_0 4 rfl rfl)
theorem dX1_pass_7 : decode cX1_pass 7 = .ok (.iconst 0, 1) := dk_3 (dk_at dksX1_pass_0 7 rfl rfl)
theorem dX1_pass_8 : decode cX1_pass 8 = .ok (.istore_n 2, 1) := dk_61 (dk_at dksX1_pass_0 8 rfl rfl)
theorem dX1_pass_9 : decode cX1_pass 9 = .ok (.iload_n 2, 1) := dk_28 (dk_at dksX1_pass_0 9 rfl rfl)
theorem dX1_pass_10 : decode cX1_pass 10 = .ok (.iload_n 1, 1) := dk_27 (dk_at dksX1_pass_0 10 rfl rfl)
theorem dX1_pass_11 : decode cX1_pass 11 = .ok (.if_icmp .ge 45, 3) := dk_162 0 45 (dk_at dksX1_pass_0 11 rfl rfl)
theorem dX1_pass_14 : decode cX1_pass 14 = .ok (.iconst 0, 1) := dk_3 (dk_at dksX1_pass_0 14 rfl rfl)
theorem dX1_pass_15 : decode cX1_pass 15 = .ok (.istore_n 3, 1) := dk_62 (dk_at dksX1_pass_0 15 rfl rfl)
theorem dX1_pass_16 : decode cX1_pass 16 = .ok (.iload_n 3, 1) := dk_29 (dk_at dksX1_pass_0 16 rfl rfl)
theorem dX1_pass_17 : decode cX1_pass 17 = .ok (.aload_n 0, 1) := dk_42 (dk_at dksX1_pass_0 17 rfl rfl)
theorem dX1_pass_18 : decode cX1_pass 18 = .ok (.getfield 56, 3) := dk_180 0 56 (dk_at dksX1_pass_0 18 rfl rfl)
theorem dX1_pass_21 : decode cX1_pass 21 = .ok (.invokeinterface 105 1, 5) := by decide +kernel
theorem dX1_pass_26 : decode cX1_pass 26 = .ok (.if_icmp .ge 14, 3) := dk_162 0 14 (dk_at dksX1_pass_1 5 rfl rfl)
theorem dX1_pass_29 : decode cX1_pass 29 = .ok (.aload_n 0, 1) := dk_42 (dk_at dksX1_pass_1 8 rfl rfl)
theorem dX1_pass_30 : decode cX1_pass 30 = .ok (.iload_n 3, 1) := dk_29 (dk_at dksX1_pass_1 9 rfl rfl)
theorem dX1_pass_31 : decode cX1_pass 31 = .ok (.invokevirtual 513, 3) := dk_182 2 1 (dk_at dksX1_pass_1 10 rfl rfl)
theorem dX1_pass_34 : decode cX1_pass 34 = .ok (.iinc 3 1, 3) := dk_132 3 1 (dk_at dksX1_pass_1 13 rfl rfl)
theorem dX1_pass_37 : decode cX1_pass 37 = .ok (.goto (-21), 3) := dk_167 255 235 (dk_at dksX1_pass_1 16 rfl rfl)
theorem dX1_pass_40 : decode cX1_pass 40 = .ok (.aload_n 0, 1) := dk_42 (dk_at dksX1_pass_1 19 rfl rfl)
theorem dX1_pass_41 : decode cX1_pass 41 = .ok (.dup, 1) := dk_89 (dk_at dksX1_pass_1 20 rfl rfl)
theorem dX1_pass_42 : decode cX1_pass 42 = .ok (.getfield 516, 3) := dk_180 2 4 (dk_at dksX1_pass_1 21 rfl rfl)
theorem dX1_pass_45 : decode cX1_pass 45 = .ok (.iconst 1, 1) := dk_4 (dk_at dksX1_pass_2 0 rfl rfl)
theorem dX1_pass_46 : decode cX1_pass 46 = .ok (.iadd, 1) := dk_96 (dk_at dksX1_pass_2 1 rfl rfl)
theorem dX1_pass_47 : decode cX1_pass 47 = .ok (.putfield 516, 3) := dk_181 2 4 (dk_at dksX1_pass_2 2 rfl rfl)
theorem dX1_pass_50 : decode cX1_pass 50 = .ok (.iinc 2 1, 3) := dk_132 2 1 (dk_at dksX1_pass_2 5 rfl rfl)
theorem dX1_pass_53 : decode cX1_pass 53 = .ok (.goto (-44), 3) := dk_167 255 212 (dk_at dksX1_pass_2 8 rfl rfl)
theorem dX1_pass_56 : decode cX1_pass 56 = .ok (.aload_n 0, 1) := dk_42 (dk_at dksX1_pass_2 11 rfl rfl)
theorem dX1_pass_57 : decode cX1_pass 57 = .ok (.getfield 516, 3) := dk_180 2 4 (dk_at dksX1_pass_2 12 rfl rfl)
theorem dX1_pass_60 : decode cX1_pass 60 = .ok (.ireturn, 1) := dk_172 (dk_at dksX1_pass_2 15 rfl rfl)
abbrev cX1_goOn : ByteArray := prog_1_method_93_code
def yX1_goOn : MethodName := ⟨RX1, "goOn", "(I)V"⟩
def dkwX1_goOn_6 : List UInt8 := [198, 0, 9, 42, 25, 5, 182, 1, 26, 177]
abbrev dktX1_goOn_6 : List UInt8 := dkwX1_goOn_6 ++ []
def dkwX1_goOn_5 : List UInt8 := [42, 25, 6, 199, 0, 11, 42, 27, 182, 1, 254, 167, 0, 5, 25, 6, 182, 1, 26, 167, 0, 14, 25, 5]
abbrev dktX1_goOn_5 : List UInt8 := dkwX1_goOn_5 ++ dktX1_goOn_6
def dkwX1_goOn_4 : List UInt8 := [182, 1, 10, 87, 167, 0, 53, 21, 4, 44, 180, 1, 227, 164, 0, 33, 42, 27, 4, 182, 1, 245, 58, 6]
abbrev dktX1_goOn_4 : List UInt8 := dkwX1_goOn_4 ++ dktX1_goOn_5
def dkwX1_goOn_3 : List UInt8 := [162, 0, 31, 42, 44, 180, 1, 225, 182, 1, 7, 153, 0, 70, 42, 44, 180, 1, 225, 44, 180, 1, 253, 27]
abbrev dktX1_goOn_3 : List UInt8 := dkwX1_goOn_3 ++ dktX1_goOn_4
def dkwX1_goOn_2 : List UInt8 := [180, 1, 30, 44, 180, 1, 225, 160, 0, 97, 44, 184, 1, 249, 167, 0, 90, 21, 4, 44, 180, 1, 227]
abbrev dktX1_goOn_2 : List UInt8 := dkwX1_goOn_2 ++ dktX1_goOn_3
def dkwX1_goOn_1 : List UInt8 := [182, 1, 239, 54, 4, 42, 27, 3, 182, 1, 245, 58, 5, 45, 198, 0, 26, 42, 45, 182, 1, 26, 45]
abbrev dktX1_goOn_1 : List UInt8 := dkwX1_goOn_1 ++ dktX1_goOn_2
def dkwX1_goOn_0 : List UInt8 := [42, 180, 0, 56, 27, 185, 0, 109, 2, 0, 192, 1, 223, 77, 42, 27, 182, 1, 242, 78, 42, 27, 2]
abbrev dktX1_goOn_0 : List UInt8 := dkwX1_goOn_0 ++ dktX1_goOn_1
theorem dksX1_goOn_0 : cX1_goOn.data.toList.drop 0 = dktX1_goOn_0 := by decide +kernel
theorem dksX1_goOn_1 : cX1_goOn.data.toList.drop 23 = dktX1_goOn_1 := dk_seg dksX1_goOn_0 23 rfl rfl
theorem dksX1_goOn_2 : cX1_goOn.data.toList.drop 46 = dktX1_goOn_2 := dk_seg dksX1_goOn_1 23 rfl rfl
theorem dksX1_goOn_3 : cX1_goOn.data.toList.drop 69 = dktX1_goOn_3 := dk_seg dksX1_goOn_2 23 rfl rfl
theorem dksX1_goOn_4 : cX1_goOn.data.toList.drop 93 = dktX1_goOn_4 := dk_seg dksX1_goOn_3 24 rfl rfl
theorem dksX1_goOn_5 : cX1_goOn.data.toList.drop 117 = dktX1_goOn_5 := dk_seg dksX1_goOn_4 24 rfl rfl
theorem dksX1_goOn_6 : cX1_goOn.data.toList.drop 141 = dktX1_goOn_6 := dk_seg dksX1_goOn_5 24 rfl rfl
theorem dX1_goOn_0 : decode cX1_goOn 0 = .ok (.aload_n 0, 1) := dk_42 (dk_at dksX1_goOn_0 0 rfl rfl)
theorem dX1_goOn_1 : decode cX1_goOn 1 = .ok (.getfield 56, 3) := dk_180 0 56 (dk_at dksX1_goOn_0 1 rfl rfl)
theorem dX1_goOn_4 : decode cX1_goOn 4 = .ok (.iload_n 1, 1) := dk_27 (dk_at dksX1_goOn_0 4 rfl rfl)
theorem dX1_goOn_5 : decode cX1_goOn 5 = .ok (.invokeinterface 109 2, 5) := by decide +kernel
theorem dX1_goOn_10 : decode cX1_goOn 10 = .ok (.checkcast 479, 3) := dk_192 1 223 (dk_at dksX1_goOn_0 10 rfl rfl)
theorem dX1_goOn_13 : decode cX1_goOn 13 = .ok (.astore_n 2, 1) := dk_77 (dk_at dksX1_goOn_0 13 rfl rfl)
theorem dX1_goOn_14 : decode cX1_goOn 14 = .ok (.aload_n 0, 1) := dk_42 (dk_at dksX1_goOn_0 14 rfl rfl)
theorem dX1_goOn_15 : decode cX1_goOn 15 = .ok (.iload_n 1, 1) := dk_27 (dk_at dksX1_goOn_0 15 rfl rfl)
theorem dX1_goOn_16 : decode cX1_goOn 16 = .ok (.invokevirtual 498, 3) := dk_182 1 242 (dk_at dksX1_goOn_0 16 rfl rfl)
theorem dX1_goOn_19 : decode cX1_goOn 19 = .ok (.astore_n 3, 1) := dk_78 (dk_at dksX1_goOn_0 19 rfl rfl)
theorem dX1_goOn_20 : decode cX1_goOn 20 = .ok (.aload_n 0, 1) := dk_42 (dk_at dksX1_goOn_0 20 rfl rfl)
theorem dX1_goOn_21 : decode cX1_goOn 21 = .ok (.iload_n 1, 1) := dk_27 (dk_at dksX1_goOn_0 21 rfl rfl)
theorem dX1_goOn_22 : decode cX1_goOn 22 = .ok (.iconst (-1), 1) := dk_2 (dk_at dksX1_goOn_0 22 rfl rfl)
theorem dX1_goOn_23 : decode cX1_goOn 23 = .ok (.invokevirtual 495, 3) := dk_182 1 239 (dk_at dksX1_goOn_1 0 rfl rfl)
theorem dX1_goOn_26 : decode cX1_goOn 26 = .ok (.istore 4, 2) := dk_54 4 (dk_at dksX1_goOn_1 3 rfl rfl)
theorem dX1_goOn_28 : decode cX1_goOn 28 = .ok (.aload_n 0, 1) := dk_42 (dk_at dksX1_goOn_1 5 rfl rfl)
theorem dX1_goOn_29 : decode cX1_goOn 29 = .ok (.iload_n 1, 1) := dk_27 (dk_at dksX1_goOn_1 6 rfl rfl)
theorem dX1_goOn_30 : decode cX1_goOn 30 = .ok (.iconst 0, 1) := dk_3 (dk_at dksX1_goOn_1 7 rfl rfl)
theorem dX1_goOn_31 : decode cX1_goOn 31 = .ok (.invokevirtual 501, 3) := dk_182 1 245 (dk_at dksX1_goOn_1 8 rfl rfl)
theorem dX1_goOn_34 : decode cX1_goOn 34 = .ok (.astore 5, 2) := dk_58 5 (dk_at dksX1_goOn_1 11 rfl rfl)
theorem dX1_goOn_36 : decode cX1_goOn 36 = .ok (.aload_n 3, 1) := dk_45 (dk_at dksX1_goOn_1 13 rfl rfl)
theorem dX1_goOn_37 : decode cX1_goOn 37 = .ok (.ifnull 26, 3) := dk_198 0 26 (dk_at dksX1_goOn_1 14 rfl rfl)
theorem dX1_goOn_40 : decode cX1_goOn 40 = .ok (.aload_n 0, 1) := dk_42 (dk_at dksX1_goOn_1 17 rfl rfl)
theorem dX1_goOn_41 : decode cX1_goOn 41 = .ok (.aload_n 3, 1) := dk_45 (dk_at dksX1_goOn_1 18 rfl rfl)
theorem dX1_goOn_42 : decode cX1_goOn 42 = .ok (.invokevirtual 282, 3) := dk_182 1 26 (dk_at dksX1_goOn_1 19 rfl rfl)
theorem dX1_goOn_45 : decode cX1_goOn 45 = .ok (.aload_n 3, 1) := dk_45 (dk_at dksX1_goOn_1 22 rfl rfl)
theorem dX1_goOn_46 : decode cX1_goOn 46 = .ok (.getfield 286, 3) := dk_180 1 30 (dk_at dksX1_goOn_2 0 rfl rfl)
theorem dX1_goOn_49 : decode cX1_goOn 49 = .ok (.aload_n 2, 1) := dk_44 (dk_at dksX1_goOn_2 3 rfl rfl)
theorem dX1_goOn_50 : decode cX1_goOn 50 = .ok (.getfield 481, 3) := dk_180 1 225 (dk_at dksX1_goOn_2 4 rfl rfl)
theorem dX1_goOn_53 : decode cX1_goOn 53 = .ok (.if_icmp .ne 97, 3) := dk_160 0 97 (dk_at dksX1_goOn_2 7 rfl rfl)
theorem dX1_goOn_56 : decode cX1_goOn 56 = .ok (.aload_n 2, 1) := dk_44 (dk_at dksX1_goOn_2 10 rfl rfl)
theorem dX1_goOn_57 : decode cX1_goOn 57 = .ok (.invokestatic 505, 3) := dk_184 1 249 (dk_at dksX1_goOn_2 11 rfl rfl)
theorem dX1_goOn_60 : decode cX1_goOn 60 = .ok (.goto 90, 3) := dk_167 0 90 (dk_at dksX1_goOn_2 14 rfl rfl)
theorem dX1_goOn_63 : decode cX1_goOn 63 = .ok (.iload 4, 2) := dk_21 4 (dk_at dksX1_goOn_2 17 rfl rfl)
theorem dX1_goOn_65 : decode cX1_goOn 65 = .ok (.aload_n 2, 1) := dk_44 (dk_at dksX1_goOn_2 19 rfl rfl)
theorem dX1_goOn_66 : decode cX1_goOn 66 = .ok (.getfield 483, 3) := dk_180 1 227 (dk_at dksX1_goOn_2 20 rfl rfl)
theorem dX1_goOn_69 : decode cX1_goOn 69 = .ok (.if_icmp .ge 31, 3) := dk_162 0 31 (dk_at dksX1_goOn_3 0 rfl rfl)
theorem dX1_goOn_72 : decode cX1_goOn 72 = .ok (.aload_n 0, 1) := dk_42 (dk_at dksX1_goOn_3 3 rfl rfl)
theorem dX1_goOn_73 : decode cX1_goOn 73 = .ok (.aload_n 2, 1) := dk_44 (dk_at dksX1_goOn_3 4 rfl rfl)
theorem dX1_goOn_74 : decode cX1_goOn 74 = .ok (.getfield 481, 3) := dk_180 1 225 (dk_at dksX1_goOn_3 5 rfl rfl)
theorem dX1_goOn_77 : decode cX1_goOn 77 = .ok (.invokevirtual 263, 3) := dk_182 1 7 (dk_at dksX1_goOn_3 8 rfl rfl)
theorem dX1_goOn_80 : decode cX1_goOn 80 = .ok (.ifCond .eq 70, 3) := dk_153 0 70 (dk_at dksX1_goOn_3 11 rfl rfl)
theorem dX1_goOn_83 : decode cX1_goOn 83 = .ok (.aload_n 0, 1) := dk_42 (dk_at dksX1_goOn_3 14 rfl rfl)
theorem dX1_goOn_84 : decode cX1_goOn 84 = .ok (.aload_n 2, 1) := dk_44 (dk_at dksX1_goOn_3 15 rfl rfl)
theorem dX1_goOn_85 : decode cX1_goOn 85 = .ok (.getfield 481, 3) := dk_180 1 225 (dk_at dksX1_goOn_3 16 rfl rfl)
theorem dX1_goOn_88 : decode cX1_goOn 88 = .ok (.aload_n 2, 1) := dk_44 (dk_at dksX1_goOn_3 19 rfl rfl)
theorem dX1_goOn_89 : decode cX1_goOn 89 = .ok (.getfield 509, 3) := dk_180 1 253 (dk_at dksX1_goOn_3 20 rfl rfl)
theorem dX1_goOn_92 : decode cX1_goOn 92 = .ok (.iload_n 1, 1) := dk_27 (dk_at dksX1_goOn_3 23 rfl rfl)
theorem dX1_goOn_93 : decode cX1_goOn 93 = .ok (.invokevirtual 266, 3) := dk_182 1 10 (dk_at dksX1_goOn_4 0 rfl rfl)
theorem dX1_goOn_96 : decode cX1_goOn 96 = .ok (.pop, 1) := dk_87 (dk_at dksX1_goOn_4 3 rfl rfl)
theorem dX1_goOn_97 : decode cX1_goOn 97 = .ok (.goto 53, 3) := dk_167 0 53 (dk_at dksX1_goOn_4 4 rfl rfl)
theorem dX1_goOn_100 : decode cX1_goOn 100 = .ok (.iload 4, 2) := dk_21 4 (dk_at dksX1_goOn_4 7 rfl rfl)
theorem dX1_goOn_102 : decode cX1_goOn 102 = .ok (.aload_n 2, 1) := dk_44 (dk_at dksX1_goOn_4 9 rfl rfl)
theorem dX1_goOn_103 : decode cX1_goOn 103 = .ok (.getfield 483, 3) := dk_180 1 227 (dk_at dksX1_goOn_4 10 rfl rfl)
theorem dX1_goOn_106 : decode cX1_goOn 106 = .ok (.if_icmp .le 33, 3) := dk_164 0 33 (dk_at dksX1_goOn_4 13 rfl rfl)
theorem dX1_goOn_109 : decode cX1_goOn 109 = .ok (.aload_n 0, 1) := dk_42 (dk_at dksX1_goOn_4 16 rfl rfl)
theorem dX1_goOn_110 : decode cX1_goOn 110 = .ok (.iload_n 1, 1) := dk_27 (dk_at dksX1_goOn_4 17 rfl rfl)
theorem dX1_goOn_111 : decode cX1_goOn 111 = .ok (.iconst 1, 1) := dk_4 (dk_at dksX1_goOn_4 18 rfl rfl)
theorem dX1_goOn_112 : decode cX1_goOn 112 = .ok (.invokevirtual 501, 3) := dk_182 1 245 (dk_at dksX1_goOn_4 19 rfl rfl)
theorem dX1_goOn_115 : decode cX1_goOn 115 = .ok (.astore 6, 2) := dk_58 6 (dk_at dksX1_goOn_4 22 rfl rfl)
theorem dX1_goOn_117 : decode cX1_goOn 117 = .ok (.aload_n 0, 1) := dk_42 (dk_at dksX1_goOn_5 0 rfl rfl)
theorem dX1_goOn_118 : decode cX1_goOn 118 = .ok (.aload 6, 2) := dk_25 6 (dk_at dksX1_goOn_5 1 rfl rfl)
theorem dX1_goOn_120 : decode cX1_goOn 120 = .ok (.ifnonnull 11, 3) := dk_199 0 11 (dk_at dksX1_goOn_5 3 rfl rfl)
theorem dX1_goOn_123 : decode cX1_goOn 123 = .ok (.aload_n 0, 1) := dk_42 (dk_at dksX1_goOn_5 6 rfl rfl)
theorem dX1_goOn_124 : decode cX1_goOn 124 = .ok (.iload_n 1, 1) := dk_27 (dk_at dksX1_goOn_5 7 rfl rfl)
theorem dX1_goOn_125 : decode cX1_goOn 125 = .ok (.invokevirtual 510, 3) := dk_182 1 254 (dk_at dksX1_goOn_5 8 rfl rfl)
theorem dX1_goOn_128 : decode cX1_goOn 128 = .ok (.goto 5, 3) := dk_167 0 5 (dk_at dksX1_goOn_5 11 rfl rfl)
theorem dX1_goOn_131 : decode cX1_goOn 131 = .ok (.aload 6, 2) := dk_25 6 (dk_at dksX1_goOn_5 14 rfl rfl)
theorem dX1_goOn_133 : decode cX1_goOn 133 = .ok (.invokevirtual 282, 3) := dk_182 1 26 (dk_at dksX1_goOn_5 16 rfl rfl)
theorem dX1_goOn_136 : decode cX1_goOn 136 = .ok (.goto 14, 3) := dk_167 0 14 (dk_at dksX1_goOn_5 19 rfl rfl)
theorem dX1_goOn_139 : decode cX1_goOn 139 = .ok (.aload 5, 2) := dk_25 5 (dk_at dksX1_goOn_5 22 rfl rfl)
theorem dX1_goOn_141 : decode cX1_goOn 141 = .ok (.ifnull 9, 3) := dk_198 0 9 (dk_at dksX1_goOn_6 0 rfl rfl)
theorem dX1_goOn_144 : decode cX1_goOn 144 = .ok (.aload_n 0, 1) := dk_42 (dk_at dksX1_goOn_6 3 rfl rfl)
theorem dX1_goOn_145 : decode cX1_goOn 145 = .ok (.aload 5, 2) := dk_25 5 (dk_at dksX1_goOn_6 4 rfl rfl)
theorem dX1_goOn_147 : decode cX1_goOn 147 = .ok (.invokevirtual 282, 3) := dk_182 1 26 (dk_at dksX1_goOn_6 6 rfl rfl)
theorem dX1_goOn_150 : decode cX1_goOn 150 = .ok (.return_, 1) := dk_177 (dk_at dksX1_goOn_6 9 rfl rfl)
abbrev cX1_firstUnhealthy : ByteArray := prog_1_method_89_code
def yX1_firstUnhealthy : MethodName := ⟨RX1, "firstUnhealthy", "(I)LCrateDeck$Container;"⟩
def dkwX1_firstUnhealthy_3 : List UInt8 := [192, 0, 113, 176, 132, 2, 1, 167, 255, 187, 1, 176]
abbrev dktX1_firstUnhealthy_3 : List UInt8 := dkwX1_firstUnhealthy_3 ++ []
def dkwX1_firstUnhealthy_2 : List UInt8 := [185, 0, 109, 2, 0, 192, 0, 113, 180, 1, 39, 154, 0, 17, 42, 180, 0, 30, 28, 185, 0, 109, 2, 0]
abbrev dktX1_firstUnhealthy_2 : List UInt8 := dkwX1_firstUnhealthy_2 ++ dktX1_firstUnhealthy_3
def dkwX1_firstUnhealthy_1 : List UInt8 := [185, 0, 109, 2, 0, 192, 0, 113, 180, 1, 236, 27, 160, 0, 36, 42, 180, 0, 30, 28]
abbrev dktX1_firstUnhealthy_1 : List UInt8 := dkwX1_firstUnhealthy_1 ++ dktX1_firstUnhealthy_2
def dkwX1_firstUnhealthy_0 : List UInt8 := [3, 61, 28, 42, 180, 0, 30, 185, 0, 105, 1, 0, 162, 0, 62, 42, 180, 0, 30, 28]
abbrev dktX1_firstUnhealthy_0 : List UInt8 := dkwX1_firstUnhealthy_0 ++ dktX1_firstUnhealthy_1
theorem dksX1_firstUnhealthy_0 : cX1_firstUnhealthy.data.toList.drop 0 = dktX1_firstUnhealthy_0 := by decide +kernel
theorem dksX1_firstUnhealthy_1 : cX1_firstUnhealthy.data.toList.drop 20 = dktX1_firstUnhealthy_1 := dk_seg dksX1_firstUnhealthy_0 20 rfl rfl
theorem dksX1_firstUnhealthy_2 : cX1_firstUnhealthy.data.toList.drop 40 = dktX1_firstUnhealthy_2 := dk_seg dksX1_firstUnhealthy_1 20 rfl rfl
theorem dksX1_firstUnhealthy_3 : cX1_firstUnhealthy.data.toList.drop 64 = dktX1_firstUnhealthy_3 := dk_seg dksX1_firstUnhealthy_2 24 rfl rfl
theorem dX1_firstUnhealthy_0 : decode cX1_firstUnhealthy 0 = .ok (.iconst 0, 1) := dk_3 (dk_at dksX1_firstUnhealthy_0 0 rfl rfl)
theorem dX1_firstUnhealthy_1 : decode cX1_firstUnhealthy 1 = .ok (.istore_n 2, 1) := dk_61 (dk_at dksX1_firstUnhealthy_0 1 rfl rfl)
theorem dX1_firstUnhealthy_2 : decode cX1_firstUnhealthy 2 = .ok (.iload_n 2, 1) := dk_28 (dk_at dksX1_firstUnhealthy_0 2 rfl rfl)
theorem dX1_firstUnhealthy_3 : decode cX1_firstUnhealthy 3 = .ok (.aload_n 0, 1) := dk_42 (dk_at dksX1_firstUnhealthy_0 3 rfl rfl)
theorem dX1_firstUnhealthy_4 : decode cX1_firstUnhealthy 4 = .ok (.getfield 30, 3) := dk_180 0 30 (dk_at dksX1_firstUnhealthy_0 4 rfl rfl)
theorem dX1_firstUnhealthy_7 : decode cX1_firstUnhealthy 7 = .ok (.invokeinterface 105 1, 5) := by decide +kernel
theorem dX1_firstUnhealthy_12 : decode cX1_firstUnhealthy 12 = .ok (.if_icmp .ge 62, 3) := dk_162 0 62 (dk_at dksX1_firstUnhealthy_0 12 rfl rfl)
theorem dX1_firstUnhealthy_15 : decode cX1_firstUnhealthy 15 = .ok (.aload_n 0, 1) := dk_42 (dk_at dksX1_firstUnhealthy_0 15 rfl rfl)
theorem dX1_firstUnhealthy_16 : decode cX1_firstUnhealthy 16 = .ok (.getfield 30, 3) := dk_180 0 30 (dk_at dksX1_firstUnhealthy_0 16 rfl rfl)
theorem dX1_firstUnhealthy_19 : decode cX1_firstUnhealthy 19 = .ok (.iload_n 2, 1) := dk_28 (dk_at dksX1_firstUnhealthy_0 19 rfl rfl)
theorem dX1_firstUnhealthy_20 : decode cX1_firstUnhealthy 20 = .ok (.invokeinterface 109 2, 5) := by decide +kernel
theorem dX1_firstUnhealthy_25 : decode cX1_firstUnhealthy 25 = .ok (.checkcast 113, 3) := dk_192 0 113 (dk_at dksX1_firstUnhealthy_1 5 rfl rfl)
theorem dX1_firstUnhealthy_28 : decode cX1_firstUnhealthy 28 = .ok (.getfield 492, 3) := dk_180 1 236 (dk_at dksX1_firstUnhealthy_1 8 rfl rfl)
theorem dX1_firstUnhealthy_31 : decode cX1_firstUnhealthy 31 = .ok (.iload_n 1, 1) := dk_27 (dk_at dksX1_firstUnhealthy_1 11 rfl rfl)
theorem dX1_firstUnhealthy_32 : decode cX1_firstUnhealthy 32 = .ok (.if_icmp .ne 36, 3) := dk_160 0 36 (dk_at dksX1_firstUnhealthy_1 12 rfl rfl)
theorem dX1_firstUnhealthy_35 : decode cX1_firstUnhealthy 35 = .ok (.aload_n 0, 1) := dk_42 (dk_at dksX1_firstUnhealthy_1 15 rfl rfl)
theorem dX1_firstUnhealthy_36 : decode cX1_firstUnhealthy 36 = .ok (.getfield 30, 3) := dk_180 0 30 (dk_at dksX1_firstUnhealthy_1 16 rfl rfl)
theorem dX1_firstUnhealthy_39 : decode cX1_firstUnhealthy 39 = .ok (.iload_n 2, 1) := dk_28 (dk_at dksX1_firstUnhealthy_1 19 rfl rfl)
theorem dX1_firstUnhealthy_40 : decode cX1_firstUnhealthy 40 = .ok (.invokeinterface 109 2, 5) := by decide +kernel
theorem dX1_firstUnhealthy_45 : decode cX1_firstUnhealthy 45 = .ok (.checkcast 113, 3) := dk_192 0 113 (dk_at dksX1_firstUnhealthy_2 5 rfl rfl)
theorem dX1_firstUnhealthy_48 : decode cX1_firstUnhealthy 48 = .ok (.getfield 295, 3) := dk_180 1 39 (dk_at dksX1_firstUnhealthy_2 8 rfl rfl)
theorem dX1_firstUnhealthy_51 : decode cX1_firstUnhealthy 51 = .ok (.ifCond .ne 17, 3) := dk_154 0 17 (dk_at dksX1_firstUnhealthy_2 11 rfl rfl)
theorem dX1_firstUnhealthy_54 : decode cX1_firstUnhealthy 54 = .ok (.aload_n 0, 1) := dk_42 (dk_at dksX1_firstUnhealthy_2 14 rfl rfl)
theorem dX1_firstUnhealthy_55 : decode cX1_firstUnhealthy 55 = .ok (.getfield 30, 3) := dk_180 0 30 (dk_at dksX1_firstUnhealthy_2 15 rfl rfl)
theorem dX1_firstUnhealthy_58 : decode cX1_firstUnhealthy 58 = .ok (.iload_n 2, 1) := dk_28 (dk_at dksX1_firstUnhealthy_2 18 rfl rfl)
theorem dX1_firstUnhealthy_59 : decode cX1_firstUnhealthy 59 = .ok (.invokeinterface 109 2, 5) := by decide +kernel
theorem dX1_firstUnhealthy_64 : decode cX1_firstUnhealthy 64 = .ok (.checkcast 113, 3) := dk_192 0 113 (dk_at dksX1_firstUnhealthy_3 0 rfl rfl)
theorem dX1_firstUnhealthy_67 : decode cX1_firstUnhealthy 67 = .ok (.areturn, 1) := dk_176 (dk_at dksX1_firstUnhealthy_3 3 rfl rfl)
theorem dX1_firstUnhealthy_68 : decode cX1_firstUnhealthy 68 = .ok (.iinc 2 1, 3) := dk_132 2 1 (dk_at dksX1_firstUnhealthy_3 4 rfl rfl)
theorem dX1_firstUnhealthy_71 : decode cX1_firstUnhealthy 71 = .ok (.goto (-69), 3) := dk_167 255 187 (dk_at dksX1_firstUnhealthy_3 7 rfl rfl)
theorem dX1_firstUnhealthy_74 : decode cX1_firstUnhealthy 74 = .ok (.aconst_null, 1) := dk_1 (dk_at dksX1_firstUnhealthy_3 10 rfl rfl)
theorem dX1_firstUnhealthy_75 : decode cX1_firstUnhealthy 75 = .ok (.areturn, 1) := dk_176 (dk_at dksX1_firstUnhealthy_3 11 rfl rfl)
abbrev cX1_other : ByteArray := prog_1_method_90_code
def yX1_other : MethodName := ⟨RX1, "other", "(IZ)LCrateDeck$Container;"⟩
def dkwX1_other_4 : List UInt8 := [45, 78, 132, 4, 1, 167, 255, 163, 45, 176]
abbrev dktX1_other_4 : List UInt8 := dkwX1_other_4 ++ []
def dkwX1_other_3 : List UInt8 := [167, 0, 4, 3, 54, 6, 21, 6, 153, 0, 16, 45, 198, 0, 7, 28, 153, 0, 8, 25, 5, 167, 0, 4]
abbrev dktX1_other_3 : List UInt8 := dkwX1_other_3 ++ dktX1_other_4
def dkwX1_other_2 : List UInt8 := [180, 1, 30, 42, 180, 0, 56, 27, 185, 0, 109, 2, 0, 192, 1, 223, 180, 1, 225, 159, 0, 7, 4]
abbrev dktX1_other_2 : List UInt8 := dkwX1_other_2 ++ dktX1_other_3
def dkwX1_other_1 : List UInt8 := [21, 4, 185, 0, 109, 2, 0, 192, 0, 113, 58, 5, 25, 5, 180, 1, 236, 27, 160, 0, 31, 25, 5]
abbrev dktX1_other_1 : List UInt8 := dkwX1_other_1 ++ dktX1_other_2
def dkwX1_other_0 : List UInt8 := [1, 78, 3, 54, 4, 21, 4, 42, 180, 0, 30, 185, 0, 105, 1, 0, 162, 0, 85, 42, 180, 0, 30]
abbrev dktX1_other_0 : List UInt8 := dkwX1_other_0 ++ dktX1_other_1
theorem dksX1_other_0 : cX1_other.data.toList.drop 0 = dktX1_other_0 := by decide +kernel
theorem dksX1_other_1 : cX1_other.data.toList.drop 23 = dktX1_other_1 := dk_seg dksX1_other_0 23 rfl rfl
theorem dksX1_other_2 : cX1_other.data.toList.drop 46 = dktX1_other_2 := dk_seg dksX1_other_1 23 rfl rfl
theorem dksX1_other_3 : cX1_other.data.toList.drop 69 = dktX1_other_3 := dk_seg dksX1_other_2 23 rfl rfl
theorem dksX1_other_4 : cX1_other.data.toList.drop 93 = dktX1_other_4 := dk_seg dksX1_other_3 24 rfl rfl
theorem dX1_other_0 : decode cX1_other 0 = .ok (.aconst_null, 1) := dk_1 (dk_at dksX1_other_0 0 rfl rfl)
theorem dX1_other_1 : decode cX1_other 1 = .ok (.astore_n 3, 1) := dk_78 (dk_at dksX1_other_0 1 rfl rfl)
theorem dX1_other_2 : decode cX1_other 2 = .ok (.iconst 0, 1) := dk_3 (dk_at dksX1_other_0 2 rfl rfl)
theorem dX1_other_3 : decode cX1_other 3 = .ok (.istore 4, 2) := dk_54 4 (dk_at dksX1_other_0 3 rfl rfl)
theorem dX1_other_5 : decode cX1_other 5 = .ok (.iload 4, 2) := dk_21 4 (dk_at dksX1_other_0 5 rfl rfl)
theorem dX1_other_7 : decode cX1_other 7 = .ok (.aload_n 0, 1) := dk_42 (dk_at dksX1_other_0 7 rfl rfl)
theorem dX1_other_8 : decode cX1_other 8 = .ok (.getfield 30, 3) := dk_180 0 30 (dk_at dksX1_other_0 8 rfl rfl)
theorem dX1_other_11 : decode cX1_other 11 = .ok (.invokeinterface 105 1, 5) := by decide +kernel
theorem dX1_other_16 : decode cX1_other 16 = .ok (.if_icmp .ge 85, 3) := dk_162 0 85 (dk_at dksX1_other_0 16 rfl rfl)
theorem dX1_other_19 : decode cX1_other 19 = .ok (.aload_n 0, 1) := dk_42 (dk_at dksX1_other_0 19 rfl rfl)
theorem dX1_other_20 : decode cX1_other 20 = .ok (.getfield 30, 3) := dk_180 0 30 (dk_at dksX1_other_0 20 rfl rfl)
theorem dX1_other_23 : decode cX1_other 23 = .ok (.iload 4, 2) := dk_21 4 (dk_at dksX1_other_1 0 rfl rfl)
theorem dX1_other_25 : decode cX1_other 25 = .ok (.invokeinterface 109 2, 5) := by decide +kernel
theorem dX1_other_30 : decode cX1_other 30 = .ok (.checkcast 113, 3) := dk_192 0 113 (dk_at dksX1_other_1 7 rfl rfl)
theorem dX1_other_33 : decode cX1_other 33 = .ok (.astore 5, 2) := dk_58 5 (dk_at dksX1_other_1 10 rfl rfl)
theorem dX1_other_35 : decode cX1_other 35 = .ok (.aload 5, 2) := dk_25 5 (dk_at dksX1_other_1 12 rfl rfl)
theorem dX1_other_37 : decode cX1_other 37 = .ok (.getfield 492, 3) := dk_180 1 236 (dk_at dksX1_other_1 14 rfl rfl)
theorem dX1_other_40 : decode cX1_other 40 = .ok (.iload_n 1, 1) := dk_27 (dk_at dksX1_other_1 17 rfl rfl)
theorem dX1_other_41 : decode cX1_other 41 = .ok (.if_icmp .ne 31, 3) := dk_160 0 31 (dk_at dksX1_other_1 18 rfl rfl)
theorem dX1_other_44 : decode cX1_other 44 = .ok (.aload 5, 2) := dk_25 5 (dk_at dksX1_other_1 21 rfl rfl)
theorem dX1_other_46 : decode cX1_other 46 = .ok (.getfield 286, 3) := dk_180 1 30 (dk_at dksX1_other_2 0 rfl rfl)
theorem dX1_other_49 : decode cX1_other 49 = .ok (.aload_n 0, 1) := dk_42 (dk_at dksX1_other_2 3 rfl rfl)
theorem dX1_other_50 : decode cX1_other 50 = .ok (.getfield 56, 3) := dk_180 0 56 (dk_at dksX1_other_2 4 rfl rfl)
theorem dX1_other_53 : decode cX1_other 53 = .ok (.iload_n 1, 1) := dk_27 (dk_at dksX1_other_2 7 rfl rfl)
theorem dX1_other_54 : decode cX1_other 54 = .ok (.invokeinterface 109 2, 5) := by decide +kernel
theorem dX1_other_59 : decode cX1_other 59 = .ok (.checkcast 479, 3) := dk_192 1 223 (dk_at dksX1_other_2 13 rfl rfl)
theorem dX1_other_62 : decode cX1_other 62 = .ok (.getfield 481, 3) := dk_180 1 225 (dk_at dksX1_other_2 16 rfl rfl)
theorem dX1_other_65 : decode cX1_other 65 = .ok (.if_icmp .eq 7, 3) := dk_159 0 7 (dk_at dksX1_other_2 19 rfl rfl)
theorem dX1_other_68 : decode cX1_other 68 = .ok (.iconst 1, 1) := dk_4 (dk_at dksX1_other_2 22 rfl rfl)
theorem dX1_other_69 : decode cX1_other 69 = .ok (.goto 4, 3) := dk_167 0 4 (dk_at dksX1_other_3 0 rfl rfl)
theorem dX1_other_72 : decode cX1_other 72 = .ok (.iconst 0, 1) := dk_3 (dk_at dksX1_other_3 3 rfl rfl)
theorem dX1_other_73 : decode cX1_other 73 = .ok (.istore 6, 2) := dk_54 6 (dk_at dksX1_other_3 4 rfl rfl)
theorem dX1_other_75 : decode cX1_other 75 = .ok (.iload 6, 2) := dk_21 6 (dk_at dksX1_other_3 6 rfl rfl)
theorem dX1_other_77 : decode cX1_other 77 = .ok (.ifCond .eq 16, 3) := dk_153 0 16 (dk_at dksX1_other_3 8 rfl rfl)
theorem dX1_other_80 : decode cX1_other 80 = .ok (.aload_n 3, 1) := dk_45 (dk_at dksX1_other_3 11 rfl rfl)
theorem dX1_other_81 : decode cX1_other 81 = .ok (.ifnull 7, 3) := dk_198 0 7 (dk_at dksX1_other_3 12 rfl rfl)
theorem dX1_other_84 : decode cX1_other 84 = .ok (.iload_n 2, 1) := dk_28 (dk_at dksX1_other_3 15 rfl rfl)
theorem dX1_other_85 : decode cX1_other 85 = .ok (.ifCond .eq 8, 3) := dk_153 0 8 (dk_at dksX1_other_3 16 rfl rfl)
theorem dX1_other_88 : decode cX1_other 88 = .ok (.aload 5, 2) := dk_25 5 (dk_at dksX1_other_3 19 rfl rfl)
theorem dX1_other_90 : decode cX1_other 90 = .ok (.goto 4, 3) := dk_167 0 4 (dk_at dksX1_other_3 21 rfl rfl)
theorem dX1_other_93 : decode cX1_other 93 = .ok (.aload_n 3, 1) := dk_45 (dk_at dksX1_other_4 0 rfl rfl)
theorem dX1_other_94 : decode cX1_other 94 = .ok (.astore_n 3, 1) := dk_78 (dk_at dksX1_other_4 1 rfl rfl)
theorem dX1_other_95 : decode cX1_other 95 = .ok (.iinc 4 1, 3) := dk_132 4 1 (dk_at dksX1_other_4 2 rfl rfl)
theorem dX1_other_98 : decode cX1_other 98 = .ok (.goto (-93), 3) := dk_167 255 163 (dk_at dksX1_other_4 5 rfl rfl)
theorem dX1_other_101 : decode cX1_other 101 = .ok (.aload_n 3, 1) := dk_45 (dk_at dksX1_other_4 8 rfl rfl)
theorem dX1_other_102 : decode cX1_other 102 = .ok (.areturn, 1) := dk_176 (dk_at dksX1_other_4 9 rfl rfl)
abbrev cX1_fail : ByteArray := prog_1_method_92_code
def yX1_fail : MethodName := ⟨RX1, "fail", "(LCrateDeck$Service;)V"⟩
def dkwX1_fail_1 : List UInt8 := [159, 0, 21, 42, 42, 180, 1, 230, 181, 1, 225, 42, 2, 181, 1, 230, 42, 3, 181, 1, 233, 177]
abbrev dktX1_fail_1 : List UInt8 := dkwX1_fail_1 ++ []
def dkwX1_fail_0 : List UInt8 := [42, 89, 180, 1, 233, 4, 96, 181, 1, 233, 42, 180, 1, 233, 5, 160, 0, 29, 42, 180, 1, 230, 2]
abbrev dktX1_fail_0 : List UInt8 := dkwX1_fail_0 ++ dktX1_fail_1
theorem dksX1_fail_0 : cX1_fail.data.toList.drop 0 = dktX1_fail_0 := by decide +kernel
theorem dksX1_fail_1 : cX1_fail.data.toList.drop 23 = dktX1_fail_1 := dk_seg dksX1_fail_0 23 rfl rfl
theorem dX1_fail_0 : decode cX1_fail 0 = .ok (.aload_n 0, 1) := dk_42 (dk_at dksX1_fail_0 0 rfl rfl)
theorem dX1_fail_1 : decode cX1_fail 1 = .ok (.dup, 1) := dk_89 (dk_at dksX1_fail_0 1 rfl rfl)
theorem dX1_fail_2 : decode cX1_fail 2 = .ok (.getfield 489, 3) := dk_180 1 233 (dk_at dksX1_fail_0 2 rfl rfl)
theorem dX1_fail_5 : decode cX1_fail 5 = .ok (.iconst 1, 1) := dk_4 (dk_at dksX1_fail_0 5 rfl rfl)
theorem dX1_fail_6 : decode cX1_fail 6 = .ok (.iadd, 1) := dk_96 (dk_at dksX1_fail_0 6 rfl rfl)
theorem dX1_fail_7 : decode cX1_fail 7 = .ok (.putfield 489, 3) := dk_181 1 233 (dk_at dksX1_fail_0 7 rfl rfl)
theorem dX1_fail_10 : decode cX1_fail 10 = .ok (.aload_n 0, 1) := dk_42 (dk_at dksX1_fail_0 10 rfl rfl)
theorem dX1_fail_11 : decode cX1_fail 11 = .ok (.getfield 489, 3) := dk_180 1 233 (dk_at dksX1_fail_0 11 rfl rfl)
theorem dX1_fail_14 : decode cX1_fail 14 = .ok (.iconst 2, 1) := dk_5 (dk_at dksX1_fail_0 14 rfl rfl)
theorem dX1_fail_15 : decode cX1_fail 15 = .ok (.if_icmp .ne 29, 3) := dk_160 0 29 (dk_at dksX1_fail_0 15 rfl rfl)
theorem dX1_fail_18 : decode cX1_fail 18 = .ok (.aload_n 0, 1) := dk_42 (dk_at dksX1_fail_0 18 rfl rfl)
theorem dX1_fail_19 : decode cX1_fail 19 = .ok (.getfield 486, 3) := dk_180 1 230 (dk_at dksX1_fail_0 19 rfl rfl)
theorem dX1_fail_22 : decode cX1_fail 22 = .ok (.iconst (-1), 1) := dk_2 (dk_at dksX1_fail_0 22 rfl rfl)
theorem dX1_fail_23 : decode cX1_fail 23 = .ok (.if_icmp .eq 21, 3) := dk_159 0 21 (dk_at dksX1_fail_1 0 rfl rfl)
theorem dX1_fail_26 : decode cX1_fail 26 = .ok (.aload_n 0, 1) := dk_42 (dk_at dksX1_fail_1 3 rfl rfl)
theorem dX1_fail_27 : decode cX1_fail 27 = .ok (.aload_n 0, 1) := dk_42 (dk_at dksX1_fail_1 4 rfl rfl)
theorem dX1_fail_28 : decode cX1_fail 28 = .ok (.getfield 486, 3) := dk_180 1 230 (dk_at dksX1_fail_1 5 rfl rfl)
theorem dX1_fail_31 : decode cX1_fail 31 = .ok (.putfield 481, 3) := dk_181 1 225 (dk_at dksX1_fail_1 8 rfl rfl)
theorem dX1_fail_34 : decode cX1_fail 34 = .ok (.aload_n 0, 1) := dk_42 (dk_at dksX1_fail_1 11 rfl rfl)
theorem dX1_fail_35 : decode cX1_fail 35 = .ok (.iconst (-1), 1) := dk_2 (dk_at dksX1_fail_1 12 rfl rfl)
theorem dX1_fail_36 : decode cX1_fail 36 = .ok (.putfield 486, 3) := dk_181 1 230 (dk_at dksX1_fail_1 13 rfl rfl)
theorem dX1_fail_39 : decode cX1_fail 39 = .ok (.aload_n 0, 1) := dk_42 (dk_at dksX1_fail_1 16 rfl rfl)
theorem dX1_fail_40 : decode cX1_fail 40 = .ok (.iconst 0, 1) := dk_3 (dk_at dksX1_fail_1 17 rfl rfl)
theorem dX1_fail_41 : decode cX1_fail 41 = .ok (.putfield 489, 3) := dk_181 1 233 (dk_at dksX1_fail_1 18 rfl rfl)
theorem dX1_fail_44 : decode cX1_fail 44 = .ok (.return_, 1) := dk_177 (dk_at dksX1_fail_1 21 rfl rfl)
abbrev cX1_last : ByteArray := prog_1_method_91_code
def yX1_last : MethodName := ⟨RX1, "last", "(I)LCrateDeck$Container;"⟩
def dkwX1_last_2 : List UInt8 := [185, 0, 109, 2, 0, 192, 0, 113, 167, 0, 4, 44, 77, 132, 3, 1, 167, 255, 202, 44, 176]
abbrev dktX1_last_2 : List UInt8 := dkwX1_last_2 ++ []
def dkwX1_last_1 : List UInt8 := [185, 0, 109, 2, 0, 192, 0, 113, 180, 1, 236, 27, 160, 0, 19, 42, 180, 0, 30, 29]
abbrev dktX1_last_1 : List UInt8 := dkwX1_last_1 ++ dktX1_last_2
def dkwX1_last_0 : List UInt8 := [1, 77, 3, 62, 29, 42, 180, 0, 30, 185, 0, 105, 1, 0, 162, 0, 47, 42, 180, 0, 30, 29]
abbrev dktX1_last_0 : List UInt8 := dkwX1_last_0 ++ dktX1_last_1
theorem dksX1_last_0 : cX1_last.data.toList.drop 0 = dktX1_last_0 := by decide +kernel
theorem dksX1_last_1 : cX1_last.data.toList.drop 22 = dktX1_last_1 := dk_seg dksX1_last_0 22 rfl rfl
theorem dksX1_last_2 : cX1_last.data.toList.drop 42 = dktX1_last_2 := dk_seg dksX1_last_1 20 rfl rfl
theorem dX1_last_0 : decode cX1_last 0 = .ok (.aconst_null, 1) := dk_1 (dk_at dksX1_last_0 0 rfl rfl)
theorem dX1_last_1 : decode cX1_last 1 = .ok (.astore_n 2, 1) := dk_77 (dk_at dksX1_last_0 1 rfl rfl)
theorem dX1_last_2 : decode cX1_last 2 = .ok (.iconst 0, 1) := dk_3 (dk_at dksX1_last_0 2 rfl rfl)
theorem dX1_last_3 : decode cX1_last 3 = .ok (.istore_n 3, 1) := dk_62 (dk_at dksX1_last_0 3 rfl rfl)
theorem dX1_last_4 : decode cX1_last 4 = .ok (.iload_n 3, 1) := dk_29 (dk_at dksX1_last_0 4 rfl rfl)
theorem dX1_last_5 : decode cX1_last 5 = .ok (.aload_n 0, 1) := dk_42 (dk_at dksX1_last_0 5 rfl rfl)
theorem dX1_last_6 : decode cX1_last 6 = .ok (.getfield 30, 3) := dk_180 0 30 (dk_at dksX1_last_0 6 rfl rfl)
theorem dX1_last_9 : decode cX1_last 9 = .ok (.invokeinterface 105 1, 5) := by decide +kernel
theorem dX1_last_14 : decode cX1_last 14 = .ok (.if_icmp .ge 47, 3) := dk_162 0 47 (dk_at dksX1_last_0 14 rfl rfl)
theorem dX1_last_17 : decode cX1_last 17 = .ok (.aload_n 0, 1) := dk_42 (dk_at dksX1_last_0 17 rfl rfl)
theorem dX1_last_18 : decode cX1_last 18 = .ok (.getfield 30, 3) := dk_180 0 30 (dk_at dksX1_last_0 18 rfl rfl)
theorem dX1_last_21 : decode cX1_last 21 = .ok (.iload_n 3, 1) := dk_29 (dk_at dksX1_last_0 21 rfl rfl)
theorem dX1_last_22 : decode cX1_last 22 = .ok (.invokeinterface 109 2, 5) := by decide +kernel
theorem dX1_last_27 : decode cX1_last 27 = .ok (.checkcast 113, 3) := dk_192 0 113 (dk_at dksX1_last_1 5 rfl rfl)
theorem dX1_last_30 : decode cX1_last 30 = .ok (.getfield 492, 3) := dk_180 1 236 (dk_at dksX1_last_1 8 rfl rfl)
theorem dX1_last_33 : decode cX1_last 33 = .ok (.iload_n 1, 1) := dk_27 (dk_at dksX1_last_1 11 rfl rfl)
theorem dX1_last_34 : decode cX1_last 34 = .ok (.if_icmp .ne 19, 3) := dk_160 0 19 (dk_at dksX1_last_1 12 rfl rfl)
theorem dX1_last_37 : decode cX1_last 37 = .ok (.aload_n 0, 1) := dk_42 (dk_at dksX1_last_1 15 rfl rfl)
theorem dX1_last_38 : decode cX1_last 38 = .ok (.getfield 30, 3) := dk_180 0 30 (dk_at dksX1_last_1 16 rfl rfl)
theorem dX1_last_41 : decode cX1_last 41 = .ok (.iload_n 3, 1) := dk_29 (dk_at dksX1_last_1 19 rfl rfl)
theorem dX1_last_42 : decode cX1_last 42 = .ok (.invokeinterface 109 2, 5) := by decide +kernel
theorem dX1_last_47 : decode cX1_last 47 = .ok (.checkcast 113, 3) := dk_192 0 113 (dk_at dksX1_last_2 5 rfl rfl)
theorem dX1_last_50 : decode cX1_last 50 = .ok (.goto 4, 3) := dk_167 0 4 (dk_at dksX1_last_2 8 rfl rfl)
theorem dX1_last_53 : decode cX1_last 53 = .ok (.aload_n 2, 1) := dk_44 (dk_at dksX1_last_2 11 rfl rfl)
theorem dX1_last_54 : decode cX1_last 54 = .ok (.astore_n 2, 1) := dk_77 (dk_at dksX1_last_2 12 rfl rfl)
theorem dX1_last_55 : decode cX1_last 55 = .ok (.iinc 3 1, 3) := dk_132 3 1 (dk_at dksX1_last_2 13 rfl rfl)
theorem dX1_last_58 : decode cX1_last 58 = .ok (.goto (-54), 3) := dk_167 255 202 (dk_at dksX1_last_2 16 rfl rfl)
theorem dX1_last_61 : decode cX1_last 61 = .ok (.aload_n 2, 1) := dk_44 (dk_at dksX1_last_2 19 rfl rfl)
theorem dX1_last_62 : decode cX1_last 62 = .ok (.areturn, 1) := dk_176 (dk_at dksX1_last_2 20 rfl rfl)
theorem q86 : (Jvm.Cond.initialized "CrateDeck") ∈ lw_all := lw_g (lw_at lw_m1 1 rfl) rfl
theorem q124 : (Jvm.Cond.instantiable "CrateDeck" (21 : Nat)) ∈ lw_all := lw_g (lw_at lw_m1 39 rfl) rfl
theorem q126 : (Jvm.Cond.instanceMethod ({ cls := "CrateDeck", name := "<init>", desc := "()V" } : Jvm.MethodName)) ∈ lw_all := lw_g (lw_at lw_m1 41 rfl) rfl
theorem q127 : (Jvm.Cond.code ({ cls := "CrateDeck", name := "<init>", desc := "()V" } : Jvm.MethodName) prog_1_method_4_code (3 : Nat) (Option.none : Option Jvm.ClassFile.FieldType)) ∈ lw_all := lw_g (lw_at lw_m1 42 rfl) rfl
theorem q128 : (Jvm.Cond.methodLink "CrateDeck" (7 : Nat) ({ cls := "java/lang/Object", name := "<init>", desc := "()V" } : Jvm.MethodName)) ∈ lw_all := lw_g (lw_at lw_m1 43 rfl) rfl
theorem q131 : (Jvm.Cond.classLink "CrateDeck" (13 : Nat) "CrateDeck$Layer") ∈ lw_all := lw_g (lw_at lw_m1 46 rfl) rfl
theorem q133 : (Jvm.Cond.methodLinkNest "CrateDeck" (15 : Nat) ({ cls := "CrateDeck$Layer", name := "<init>", desc := "()V" } : Jvm.MethodName) "CrateDeck") ∈ lw_tbl := lw_at lw_m1 48 rfl
theorem q164 : (Jvm.Cond.fieldLinkNest "CrateDeck" (133 : Nat) "CrateDeck$Layer" "entries" "Ljava/util/List;" "CrateDeck") ∈ lw_tbl := lw_at lw_m1 79 rfl
theorem q168 : (Jvm.Cond.classLink "CrateDeck" (20 : Nat) "java/util/ArrayList") ∈ lw_all := lw_g (lw_at lw_m1 83 rfl) rfl
theorem q169 : (Jvm.Cond.methodLink "CrateDeck" (22 : Nat) ({ cls := "java/util/ArrayList", name := "<init>", desc := "()V" } : Jvm.MethodName)) ∈ lw_all := lw_g (lw_at lw_m1 84 rfl) rfl
theorem q170 : (Jvm.Cond.classLink "CrateDeck" (33 : Nat) "[[I") ∈ lw_all := lw_g (lw_at lw_m1 85 rfl) rfl
theorem q172 : (Jvm.Cond.classLink "CrateDeck" (47 : Nat) "CrateDeck$Forward") ∈ lw_all := lw_g (lw_at lw_m1 87 rfl) rfl
theorem q174 : (Jvm.Cond.classLink "CrateDeck" (59 : Nat) "CrateDeck$Tree") ∈ lw_all := lw_g (lw_at lw_m1 89 rfl) rfl
theorem q176 : (Jvm.Cond.methodLinkNest "CrateDeck" (61 : Nat) ({ cls := "CrateDeck$Tree", name := "<init>", desc := "()V" } : Jvm.MethodName) "CrateDeck") ∈ lw_tbl := lw_at lw_m1 91 rfl
theorem q183 : (Jvm.Cond.fieldLinkNest "CrateDeck" (199 : Nat) "CrateDeck$Tree" "layers" "Ljava/util/List;" "CrateDeck") ∈ lw_tbl := lw_at lw_m1 98 rfl
theorem q188 : (Jvm.Cond.classLink "CrateDeck" (73 : Nat) "CrateDeck$Image") ∈ lw_all := lw_g (lw_at lw_m1 103 rfl) rfl
theorem q190 : (Jvm.Cond.methodLinkNest "CrateDeck" (75 : Nat) ({ cls := "CrateDeck$Image", name := "<init>", desc := "()V" } : Jvm.MethodName) "CrateDeck") ∈ lw_tbl := lw_at lw_m1 105 rfl
theorem q197 : (Jvm.Cond.fieldLinkNest "CrateDeck" (165 : Nat) "CrateDeck$Image" "row" "Ljava/util/List;" "CrateDeck") ∈ lw_tbl := lw_at lw_m1 112 rfl
theorem q201 : (Jvm.Cond.interfaceEntry "CrateDeck" (76 : Nat)) ∈ lw_tbl := lw_at lw_m1 116 rfl
theorem q202 : (Jvm.Cond.methodLink "CrateDeck" (76 : Nat) ({ cls := "java/util/List", name := "add", desc := "(Ljava/lang/Object;)Z" } : Jvm.MethodName)) ∈ lw_all := lw_g (lw_at lw_m1 117 rfl) rfl
theorem q239 : (Jvm.Cond.selects "CrateDeck" ({ cls := "java/lang/Object", name := "getClass", desc := "()Ljava/lang/Class;" } : Jvm.MethodName) ({ cls := "java/lang/Object", name := "getClass", desc := "()Ljava/lang/Class;" } : Jvm.MethodName)) ∈ lw_all := lw_g (lw_at lw_m1 154 rfl) rfl
theorem q276 : (Jvm.Cond.classLink "CrateDeck" (82 : Nat) "CrateDeck$User") ∈ lw_all := lw_g (lw_at lw_m1 191 rfl) rfl
theorem q278 : (Jvm.Cond.methodLink "CrateDeck" (84 : Nat) ({ cls := "CrateDeck$User", name := "<init>", desc := "(I)V" } : Jvm.MethodName)) ∈ lw_all := lw_g (lw_at lw_m1 193 rfl) rfl
theorem q285 : (Jvm.Cond.fieldLinkNest "CrateDeck" (370 : Nat) "CrateDeck$User" "parent" "I" "CrateDeck") ∈ lw_tbl := lw_at lw_m1 200 rfl
theorem q287 : (Jvm.Cond.fieldLinkNest "CrateDeck" (360 : Nat) "CrateDeck$User" "ranges" "Ljava/util/List;" "CrateDeck") ∈ lw_tbl := lw_at lw_m1 202 rfl
theorem q293 : (Jvm.Cond.classLink "CrateDeck" (87 : Nat) "CrateDeck$Group") ∈ lw_all := lw_g (lw_at lw_m1 208 rfl) rfl
theorem q295 : (Jvm.Cond.methodLink "CrateDeck" (89 : Nat) ({ cls := "CrateDeck$Group", name := "<init>", desc := "(IIII)V" } : Jvm.MethodName)) ∈ lw_all := lw_g (lw_at lw_m1 210 rfl) rfl
theorem q300 : (Jvm.Cond.fieldLinkNest "CrateDeck" (380 : Nat) "CrateDeck$Group" "parent" "I" "CrateDeck") ∈ lw_tbl := lw_at lw_m1 215 rfl
theorem q302 : (Jvm.Cond.fieldLinkNest "CrateDeck" (392 : Nat) "CrateDeck$Group" "processes" "I" "CrateDeck") ∈ lw_tbl := lw_at lw_m1 217 rfl
theorem q304 : (Jvm.Cond.fieldLinkNest "CrateDeck" (405 : Nat) "CrateDeck$Group" "memory" "I" "CrateDeck") ∈ lw_tbl := lw_at lw_m1 219 rfl
theorem q306 : (Jvm.Cond.fieldLinkNest "CrateDeck" (412 : Nat) "CrateDeck$Group" "shares" "I" "CrateDeck") ∈ lw_tbl := lw_at lw_m1 221 rfl
theorem q316 : (Jvm.Cond.fieldLink "CrateDeck" (516 : Nat) "CrateDeck" "now" "I") ∈ lw_all := lw_g (lw_at lw_m1 231 rfl) rfl
theorem q317 : (Jvm.Cond.fieldLink "CrateDeck" (16 : Nat) "CrateDeck" "told" "LCrateDeck$Layer;") ∈ lw_all := lw_g (lw_at lw_m1 232 rfl) rfl
theorem q318 : (Jvm.Cond.fieldLink "CrateDeck" (23 : Nat) "CrateDeck" "layers" "Ljava/util/List;") ∈ lw_all := lw_g (lw_at lw_m1 233 rfl) rfl
theorem q319 : (Jvm.Cond.fieldLink "CrateDeck" (27 : Nat) "CrateDeck" "images" "Ljava/util/List;") ∈ lw_all := lw_g (lw_at lw_m1 234 rfl) rfl
theorem q320 : (Jvm.Cond.fieldLink "CrateDeck" (30 : Nat) "CrateDeck" "containers" "Ljava/util/List;") ∈ lw_all := lw_g (lw_at lw_m1 235 rfl) rfl
theorem q321 : (Jvm.Cond.fieldLink "CrateDeck" (247 : Nat) "CrateDeck" "nextContainer" "I") ∈ lw_all := lw_g (lw_at lw_m1 236 rfl) rfl
theorem q322 : (Jvm.Cond.fieldLink "CrateDeck" (35 : Nat) "CrateDeck" "volumes" "[[I") ∈ lw_all := lw_g (lw_at lw_m1 237 rfl) rfl
theorem q323 : (Jvm.Cond.fieldLink "CrateDeck" (38 : Nat) "CrateDeck" "users" "Ljava/util/List;") ∈ lw_all := lw_g (lw_at lw_m1 238 rfl) rfl
theorem q324 : (Jvm.Cond.fieldLink "CrateDeck" (41 : Nat) "CrateDeck" "groups" "Ljava/util/List;") ∈ lw_all := lw_g (lw_at lw_m1 239 rfl) rfl
theorem q325 : (Jvm.Cond.fieldLink "CrateDeck" (44 : Nat) "CrateDeck" "processes" "Ljava/util/List;") ∈ lw_all := lw_g (lw_at lw_m2 0 rfl) rfl
theorem q326 : (Jvm.Cond.fieldLink "CrateDeck" (394 : Nat) "CrateDeck" "nextProcess" "I") ∈ lw_all := lw_g (lw_at lw_m2 1 rfl) rfl
theorem q327 : (Jvm.Cond.fieldLink "CrateDeck" (49 : Nat) "CrateDeck" "forwards" "[LCrateDeck$Forward;") ∈ lw_all := lw_g (lw_at lw_m2 2 rfl) rfl
theorem q328 : (Jvm.Cond.fieldLink "CrateDeck" (53 : Nat) "CrateDeck" "steps" "Ljava/util/List;") ∈ lw_all := lw_g (lw_at lw_m2 3 rfl) rfl
theorem q329 : (Jvm.Cond.fieldLink "CrateDeck" (461 : Nat) "CrateDeck" "hits" "I") ∈ lw_all := lw_g (lw_at lw_m2 4 rfl) rfl
theorem q330 : (Jvm.Cond.fieldLink "CrateDeck" (151 : Nat) "CrateDeck" "hostLayers" "I") ∈ lw_all := lw_g (lw_at lw_m2 5 rfl) rfl
theorem q331 : (Jvm.Cond.fieldLink "CrateDeck" (470 : Nat) "CrateDeck" "registryLayers" "I") ∈ lw_all := lw_g (lw_at lw_m2 6 rfl) rfl
theorem q332 : (Jvm.Cond.fieldLink "CrateDeck" (476 : Nat) "CrateDeck" "registryImages" "I") ∈ lw_all := lw_g (lw_at lw_m2 7 rfl) rfl
theorem q333 : (Jvm.Cond.fieldLink "CrateDeck" (56 : Nat) "CrateDeck" "services" "Ljava/util/List;") ∈ lw_all := lw_g (lw_at lw_m2 8 rfl) rfl
theorem q334 : (Jvm.Cond.fieldLink "CrateDeck" (62 : Nat) "CrateDeck" "looked" "LCrateDeck$Tree;") ∈ lw_all := lw_g (lw_at lw_m2 9 rfl) rfl
theorem q335 : (Jvm.Cond.fieldLink "CrateDeck" (66 : Nat) "CrateDeck" "whole" "[I") ∈ lw_all := lw_g (lw_at lw_m2 10 rfl) rfl
theorem q336 : (Jvm.Cond.fieldLink "CrateDeck" (70 : Nat) "CrateDeck" "kept" "LCrateDeck$Layer;") ∈ lw_all := lw_g (lw_at lw_m2 11 rfl) rfl
theorem q337 : (Jvm.Cond.lays "CrateDeck" "CrateDeck" "now" "I") ∈ lw_all := lw_g (lw_at lw_m2 12 rfl) rfl
theorem q338 : (Jvm.Cond.soleField "CrateDeck" "now") ∈ lw_all := lw_g (lw_at lw_m2 13 rfl) rfl
theorem q339 : (Jvm.Cond.laysFinal "CrateDeck" "CrateDeck" "told" "LCrateDeck$Layer;") ∈ lw_all := lw_g (lw_at lw_m2 14 rfl) rfl
theorem q340 : (Jvm.Cond.soleField "CrateDeck" "told") ∈ lw_all := lw_g (lw_at lw_m2 15 rfl) rfl
theorem q341 : (Jvm.Cond.laysFinal "CrateDeck" "CrateDeck" "layers" "Ljava/util/List;") ∈ lw_all := lw_g (lw_at lw_m2 16 rfl) rfl
theorem q342 : (Jvm.Cond.soleField "CrateDeck" "layers") ∈ lw_all := lw_g (lw_at lw_m2 17 rfl) rfl
theorem q343 : (Jvm.Cond.laysFinal "CrateDeck" "CrateDeck" "images" "Ljava/util/List;") ∈ lw_all := lw_g (lw_at lw_m2 18 rfl) rfl
theorem q344 : (Jvm.Cond.soleField "CrateDeck" "images") ∈ lw_all := lw_g (lw_at lw_m2 19 rfl) rfl
theorem q345 : (Jvm.Cond.laysFinal "CrateDeck" "CrateDeck" "containers" "Ljava/util/List;") ∈ lw_all := lw_g (lw_at lw_m2 20 rfl) rfl
theorem q346 : (Jvm.Cond.soleField "CrateDeck" "containers") ∈ lw_all := lw_g (lw_at lw_m2 21 rfl) rfl
theorem q347 : (Jvm.Cond.lays "CrateDeck" "CrateDeck" "nextContainer" "I") ∈ lw_all := lw_g (lw_at lw_m2 22 rfl) rfl
theorem q348 : (Jvm.Cond.soleField "CrateDeck" "nextContainer") ∈ lw_all := lw_g (lw_at lw_m2 23 rfl) rfl
theorem q349 : (Jvm.Cond.laysFinal "CrateDeck" "CrateDeck" "volumes" "[[I") ∈ lw_all := lw_g (lw_at lw_m2 24 rfl) rfl
theorem q350 : (Jvm.Cond.soleField "CrateDeck" "volumes") ∈ lw_all := lw_g (lw_at lw_m2 25 rfl) rfl
theorem q351 : (Jvm.Cond.laysFinal "CrateDeck" "CrateDeck" "users" "Ljava/util/List;") ∈ lw_all := lw_g (lw_at lw_m2 26 rfl) rfl
theorem q352 : (Jvm.Cond.soleField "CrateDeck" "users") ∈ lw_all := lw_g (lw_at lw_m2 27 rfl) rfl
theorem q353 : (Jvm.Cond.laysFinal "CrateDeck" "CrateDeck" "groups" "Ljava/util/List;") ∈ lw_all := lw_g (lw_at lw_m2 28 rfl) rfl
theorem q354 : (Jvm.Cond.soleField "CrateDeck" "groups") ∈ lw_all := lw_g (lw_at lw_m2 29 rfl) rfl
theorem q355 : (Jvm.Cond.laysFinal "CrateDeck" "CrateDeck" "processes" "Ljava/util/List;") ∈ lw_all := lw_g (lw_at lw_m2 30 rfl) rfl
theorem q356 : (Jvm.Cond.soleField "CrateDeck" "processes") ∈ lw_all := lw_g (lw_at lw_m2 31 rfl) rfl
theorem q357 : (Jvm.Cond.lays "CrateDeck" "CrateDeck" "nextProcess" "I") ∈ lw_all := lw_g (lw_at lw_m2 32 rfl) rfl
theorem q358 : (Jvm.Cond.soleField "CrateDeck" "nextProcess") ∈ lw_all := lw_g (lw_at lw_m2 33 rfl) rfl
theorem q359 : (Jvm.Cond.laysFinal "CrateDeck" "CrateDeck" "forwards" "[LCrateDeck$Forward;") ∈ lw_all := lw_g (lw_at lw_m2 34 rfl) rfl
theorem q360 : (Jvm.Cond.soleField "CrateDeck" "forwards") ∈ lw_all := lw_g (lw_at lw_m2 35 rfl) rfl
theorem q361 : (Jvm.Cond.laysFinal "CrateDeck" "CrateDeck" "steps" "Ljava/util/List;") ∈ lw_all := lw_g (lw_at lw_m2 36 rfl) rfl
theorem q362 : (Jvm.Cond.soleField "CrateDeck" "steps") ∈ lw_all := lw_g (lw_at lw_m2 37 rfl) rfl
theorem q363 : (Jvm.Cond.lays "CrateDeck" "CrateDeck" "hits" "I") ∈ lw_all := lw_g (lw_at lw_m2 38 rfl) rfl
theorem q364 : (Jvm.Cond.soleField "CrateDeck" "hits") ∈ lw_all := lw_g (lw_at lw_m2 39 rfl) rfl
theorem q365 : (Jvm.Cond.lays "CrateDeck" "CrateDeck" "hostLayers" "I") ∈ lw_all := lw_g (lw_at lw_m2 40 rfl) rfl
theorem q366 : (Jvm.Cond.soleField "CrateDeck" "hostLayers") ∈ lw_all := lw_g (lw_at lw_m2 41 rfl) rfl
theorem q367 : (Jvm.Cond.lays "CrateDeck" "CrateDeck" "registryLayers" "I") ∈ lw_all := lw_g (lw_at lw_m2 42 rfl) rfl
theorem q368 : (Jvm.Cond.soleField "CrateDeck" "registryLayers") ∈ lw_all := lw_g (lw_at lw_m2 43 rfl) rfl
theorem q369 : (Jvm.Cond.lays "CrateDeck" "CrateDeck" "registryImages" "I") ∈ lw_all := lw_g (lw_at lw_m2 44 rfl) rfl
theorem q370 : (Jvm.Cond.soleField "CrateDeck" "registryImages") ∈ lw_all := lw_g (lw_at lw_m2 45 rfl) rfl
theorem q371 : (Jvm.Cond.laysFinal "CrateDeck" "CrateDeck" "services" "Ljava/util/List;") ∈ lw_all := lw_g (lw_at lw_m2 46 rfl) rfl
theorem q372 : (Jvm.Cond.soleField "CrateDeck" "services") ∈ lw_all := lw_g (lw_at lw_m2 47 rfl) rfl
theorem q373 : (Jvm.Cond.laysFinal "CrateDeck" "CrateDeck" "looked" "LCrateDeck$Tree;") ∈ lw_all := lw_g (lw_at lw_m2 48 rfl) rfl
theorem q374 : (Jvm.Cond.soleField "CrateDeck" "looked") ∈ lw_all := lw_g (lw_at lw_m2 49 rfl) rfl
theorem q375 : (Jvm.Cond.laysFinal "CrateDeck" "CrateDeck" "whole" "[I") ∈ lw_all := lw_g (lw_at lw_m2 50 rfl) rfl
theorem q376 : (Jvm.Cond.soleField "CrateDeck" "whole") ∈ lw_all := lw_g (lw_at lw_m2 51 rfl) rfl
theorem q377 : (Jvm.Cond.laysFinal "CrateDeck" "CrateDeck" "kept" "LCrateDeck$Layer;") ∈ lw_all := lw_g (lw_at lw_m2 52 rfl) rfl
theorem q378 : (Jvm.Cond.soleField "CrateDeck" "kept") ∈ lw_all := lw_g (lw_at lw_m2 53 rfl) rfl
theorem q379 : (Jvm.Cond.superclass "CrateDeck" "java/lang/Object") ∈ lw_all := lw_g (lw_at lw_m2 54 rfl) rfl
theorem q381 : (Jvm.Cond.instanceMethod ({ cls := "CrateDeck", name := "hits", desc := "()I" } : Jvm.MethodName)) ∈ lw_all := lw_g (lw_at lw_m2 56 rfl) rfl
theorem q382 : (Jvm.Cond.selects "CrateDeck" ({ cls := "CrateDeck", name := "hits", desc := "()I" } : Jvm.MethodName) ({ cls := "CrateDeck", name := "hits", desc := "()I" } : Jvm.MethodName)) ∈ lw_all := lw_g (lw_at lw_m2 57 rfl) rfl
theorem q383 : (Jvm.Cond.code ({ cls := "CrateDeck", name := "hits", desc := "()I" } : Jvm.MethodName) prog_1_method_77_code (1 : Nat) (Option.some Jvm.ClassFile.FieldType.int)) ∈ lw_all := lw_g (lw_at lw_m2 58 rfl) rfl
theorem q385 : (Jvm.Cond.instanceMethod ({ cls := "CrateDeck", name := "sweep", desc := "()I" } : Jvm.MethodName)) ∈ lw_all := lw_g (lw_at lw_m2 60 rfl) rfl
theorem q386 : (Jvm.Cond.selects "CrateDeck" ({ cls := "CrateDeck", name := "sweep", desc := "()I" } : Jvm.MethodName) ({ cls := "CrateDeck", name := "sweep", desc := "()I" } : Jvm.MethodName)) ∈ lw_all := lw_g (lw_at lw_m2 61 rfl) rfl
theorem q387 : (Jvm.Cond.code ({ cls := "CrateDeck", name := "sweep", desc := "()I" } : Jvm.MethodName) prog_1_method_81_code (3 : Nat) (Option.some Jvm.ClassFile.FieldType.int)) ∈ lw_all := lw_g (lw_at lw_m2 62 rfl) rfl
theorem q388 : (Jvm.Cond.interfaceEntry "CrateDeck" (105 : Nat)) ∈ lw_tbl := lw_at lw_m2 63 rfl
theorem q389 : (Jvm.Cond.methodLink "CrateDeck" (105 : Nat) ({ cls := "java/util/List", name := "size", desc := "()I" } : Jvm.MethodName)) ∈ lw_all := lw_g (lw_at lw_m2 64 rfl) rfl
theorem q397 : (Jvm.Cond.methodLink "CrateDeck" (260 : Nat) ({ cls := "CrateDeck", name := "layersOf", desc := "(I)I" } : Jvm.MethodName)) ∈ lw_all := lw_g (lw_at lw_m2 72 rfl) rfl
theorem q398 : (Jvm.Cond.privateMethod ({ cls := "CrateDeck", name := "layersOf", desc := "(I)I" } : Jvm.MethodName)) ∈ lw_tbl := lw_at lw_m2 73 rfl
theorem q399 : (Jvm.Cond.instanceMethod ({ cls := "CrateDeck", name := "layersOf", desc := "(I)I" } : Jvm.MethodName)) ∈ lw_all := lw_g (lw_at lw_m2 74 rfl) rfl
theorem q400 : (Jvm.Cond.code ({ cls := "CrateDeck", name := "layersOf", desc := "(I)I" } : Jvm.MethodName) prog_1_method_29_code (5 : Nat) (Option.some Jvm.ClassFile.FieldType.int)) ∈ lw_all := lw_g (lw_at lw_m2 75 rfl) rfl
theorem q401 : (Jvm.Cond.interfaceEntry "CrateDeck" (109 : Nat)) ∈ lw_tbl := lw_at lw_m2 76 rfl
theorem q402 : (Jvm.Cond.methodLink "CrateDeck" (109 : Nat) ({ cls := "java/util/List", name := "get", desc := "(I)Ljava/lang/Object;" } : Jvm.MethodName)) ∈ lw_all := lw_g (lw_at lw_m2 77 rfl) rfl
theorem q420 : (Jvm.Cond.classLink "CrateDeck" (172 : Nat) "java/lang/Integer") ∈ lw_all := lw_g (lw_at lw_m2 95 rfl) rfl
theorem q421 : (Jvm.Cond.methodLink "CrateDeck" (200 : Nat) ({ cls := "java/lang/Integer", name := "intValue", desc := "()I" } : Jvm.MethodName)) ∈ lw_all := lw_g (lw_at lw_m2 96 rfl) rfl
theorem q425 : (Jvm.Cond.methodLink "CrateDeck" (473 : Nat) ({ cls := "java/lang/Integer", name := "bitCount", desc := "(I)I" } : Jvm.MethodName)) ∈ lw_all := lw_g (lw_at lw_m2 100 rfl) rfl
theorem q432 : (Jvm.Cond.instanceMethod ({ cls := "CrateDeck", name := "dropLayers", desc := "()I" } : Jvm.MethodName)) ∈ lw_all := lw_g (lw_at lw_m2 107 rfl) rfl
theorem q433 : (Jvm.Cond.selects "CrateDeck" ({ cls := "CrateDeck", name := "dropLayers", desc := "()I" } : Jvm.MethodName) ({ cls := "CrateDeck", name := "dropLayers", desc := "()I" } : Jvm.MethodName)) ∈ lw_all := lw_g (lw_at lw_m2 108 rfl) rfl
theorem q434 : (Jvm.Cond.code ({ cls := "CrateDeck", name := "dropLayers", desc := "()I" } : Jvm.MethodName) prog_1_method_82_code (3 : Nat) (Option.some Jvm.ClassFile.FieldType.int)) ∈ lw_all := lw_g (lw_at lw_m2 109 rfl) rfl
theorem q435 : (Jvm.Cond.classLink "CrateDeck" (113 : Nat) "CrateDeck$Container") ∈ lw_all := lw_g (lw_at lw_m2 110 rfl) rfl
theorem q436 : (Jvm.Cond.classLink "CrateDeck" (479 : Nat) "CrateDeck$Service") ∈ lw_all := lw_g (lw_at lw_m2 111 rfl) rfl
theorem q438 : (Jvm.Cond.instanceMethod ({ cls := "CrateDeck", name := "layers", desc := "(Z)I" } : Jvm.MethodName)) ∈ lw_all := lw_g (lw_at lw_m2 113 rfl) rfl
theorem q439 : (Jvm.Cond.selects "CrateDeck" ({ cls := "CrateDeck", name := "layers", desc := "(Z)I" } : Jvm.MethodName) ({ cls := "CrateDeck", name := "layers", desc := "(Z)I" } : Jvm.MethodName)) ∈ lw_all := lw_g (lw_at lw_m2 114 rfl) rfl
theorem q440 : (Jvm.Cond.code ({ cls := "CrateDeck", name := "layers", desc := "(Z)I" } : Jvm.MethodName) prog_1_method_83_code (2 : Nat) (Option.some Jvm.ClassFile.FieldType.int)) ∈ lw_all := lw_g (lw_at lw_m2 115 rfl) rfl
theorem q447 : (Jvm.Cond.instanceMethod ({ cls := "CrateDeck", name := "entry", desc := "(III)I" } : Jvm.MethodName)) ∈ lw_all := lw_g (lw_at lw_m2 122 rfl) rfl
theorem q448 : (Jvm.Cond.selects "CrateDeck" ({ cls := "CrateDeck", name := "entry", desc := "(III)I" } : Jvm.MethodName) ({ cls := "CrateDeck", name := "entry", desc := "(III)I" } : Jvm.MethodName)) ∈ lw_all := lw_g (lw_at lw_m2 123 rfl) rfl
theorem q449 : (Jvm.Cond.code ({ cls := "CrateDeck", name := "entry", desc := "(III)I" } : Jvm.MethodName) prog_1_method_11_code (4 : Nat) (Option.some Jvm.ClassFile.FieldType.int)) ∈ lw_all := lw_g (lw_at lw_m2 124 rfl) rfl
theorem q450 : (Jvm.Cond.methodLink "CrateDeck" (122 : Nat) ({ cls := "CrateDeck", name := "checkPath", desc := "(I)V" } : Jvm.MethodName)) ∈ lw_all := lw_g (lw_at lw_m2 125 rfl) rfl
theorem q451 : (Jvm.Cond.static ({ cls := "CrateDeck", name := "checkPath", desc := "(I)V" } : Jvm.MethodName)) ∈ lw_all := lw_g (lw_at lw_m2 126 rfl) rfl
theorem q452 : (Jvm.Cond.code ({ cls := "CrateDeck", name := "checkPath", desc := "(I)V" } : Jvm.MethodName) prog_1_method_6_code (1 : Nat) (Option.none : Option Jvm.ClassFile.FieldType)) ∈ lw_all := lw_g (lw_at lw_m2 127 rfl) rfl
theorem q453 : (Jvm.Cond.methodLink "CrateDeck" (95 : Nat) ({ cls := "CrateDeck", name := "isPath", desc := "(I)Z" } : Jvm.MethodName)) ∈ lw_all := lw_g (lw_at lw_m2 128 rfl) rfl
theorem q454 : (Jvm.Cond.static ({ cls := "CrateDeck", name := "isPath", desc := "(I)Z" } : Jvm.MethodName)) ∈ lw_all := lw_g (lw_at lw_m2 129 rfl) rfl
theorem q455 : (Jvm.Cond.code ({ cls := "CrateDeck", name := "isPath", desc := "(I)Z" } : Jvm.MethodName) prog_1_method_1_code (3 : Nat) (Option.some Jvm.ClassFile.FieldType.boolean)) ∈ lw_all := lw_g (lw_at lw_m2 130 rfl) rfl
theorem q456 : (Jvm.Cond.classLink "CrateDeck" (92 : Nat) "java/lang/IllegalArgumentException") ∈ lw_all := lw_g (lw_at lw_m2 131 rfl) rfl
theorem q498 : (Jvm.Cond.methodLink "CrateDeck" (94 : Nat) ({ cls := "java/lang/IllegalArgumentException", name := "<init>", desc := "()V" } : Jvm.MethodName)) ∈ lw_all := lw_g (lw_at lw_m2 173 rfl) rfl
theorem q521 : (Jvm.Cond.methodLink "CrateDeck" (125 : Nat) ({ cls := "CrateDeck", name := "check", desc := "(III)V" } : Jvm.MethodName)) ∈ lw_all := lw_g (lw_at lw_m2 196 rfl) rfl
theorem q522 : (Jvm.Cond.static ({ cls := "CrateDeck", name := "check", desc := "(III)V" } : Jvm.MethodName)) ∈ lw_all := lw_g (lw_at lw_m2 197 rfl) rfl
theorem q523 : (Jvm.Cond.code ({ cls := "CrateDeck", name := "check", desc := "(III)V" } : Jvm.MethodName) prog_1_method_5_code (3 : Nat) (Option.none : Option Jvm.ClassFile.FieldType)) ∈ lw_all := lw_g (lw_at lw_m2 198 rfl) rfl
theorem q524 : (Jvm.Cond.methodLink "CrateDeck" (129 : Nat) ({ cls := "CrateDeck$Layer", name := "at", desc := "(I)LCrateDeck$Entry;" } : Jvm.MethodName)) ∈ lw_all := lw_g (lw_at lw_m2 199 rfl) rfl
theorem q537 : (Jvm.Cond.methodLink "CrateDeck" (136 : Nat) ({ cls := "CrateDeck", name := "checkState", desc := "(Z)V" } : Jvm.MethodName)) ∈ lw_all := lw_g (lw_at lw_m2 212 rfl) rfl
theorem q538 : (Jvm.Cond.static ({ cls := "CrateDeck", name := "checkState", desc := "(Z)V" } : Jvm.MethodName)) ∈ lw_all := lw_g (lw_at lw_m2 213 rfl) rfl
theorem q539 : (Jvm.Cond.code ({ cls := "CrateDeck", name := "checkState", desc := "(Z)V" } : Jvm.MethodName) prog_1_method_7_code (1 : Nat) (Option.none : Option Jvm.ClassFile.FieldType)) ∈ lw_all := lw_g (lw_at lw_m2 214 rfl) rfl
theorem q540 : (Jvm.Cond.classLink "CrateDeck" (99 : Nat) "java/lang/IllegalStateException") ∈ lw_all := lw_g (lw_at lw_m2 215 rfl) rfl
theorem q549 : (Jvm.Cond.methodLink "CrateDeck" (101 : Nat) ({ cls := "java/lang/IllegalStateException", name := "<init>", desc := "()V" } : Jvm.MethodName)) ∈ lw_all := lw_g (lw_at lw_m2 224 rfl) rfl
theorem q555 : (Jvm.Cond.methodLink "CrateDeck" (140 : Nat) ({ cls := "CrateDeck$Layer", name := "put", desc := "(III)V" } : Jvm.MethodName)) ∈ lw_all := lw_g (lw_at lw_m2 230 rfl) rfl
theorem q601 : (Jvm.Cond.instanceMethod ({ cls := "CrateDeck", name := "layer", desc := "()I" } : Jvm.MethodName)) ∈ lw_all := lw_g (lw_at lw_m3 36 rfl) rfl
theorem q602 : (Jvm.Cond.selects "CrateDeck" ({ cls := "CrateDeck", name := "layer", desc := "()I" } : Jvm.MethodName) ({ cls := "CrateDeck", name := "layer", desc := "()I" } : Jvm.MethodName)) ∈ lw_all := lw_g (lw_at lw_m3 37 rfl) rfl
theorem q603 : (Jvm.Cond.code ({ cls := "CrateDeck", name := "layer", desc := "()I" } : Jvm.MethodName) prog_1_method_14_code (2 : Nat) (Option.some Jvm.ClassFile.FieldType.int)) ∈ lw_all := lw_g (lw_at lw_m3 38 rfl) rfl
theorem q604 : (Jvm.Cond.methodLink "CrateDeck" (154 : Nat) ({ cls := "CrateDeck", name := "numberOf", desc := "(LCrateDeck$Layer;)I" } : Jvm.MethodName)) ∈ lw_all := lw_g (lw_at lw_m3 39 rfl) rfl
theorem q605 : (Jvm.Cond.privateMethod ({ cls := "CrateDeck", name := "numberOf", desc := "(LCrateDeck$Layer;)I" } : Jvm.MethodName)) ∈ lw_tbl := lw_at lw_m3 40 rfl
theorem q606 : (Jvm.Cond.instanceMethod ({ cls := "CrateDeck", name := "numberOf", desc := "(LCrateDeck$Layer;)I" } : Jvm.MethodName)) ∈ lw_all := lw_g (lw_at lw_m3 41 rfl) rfl
theorem q607 : (Jvm.Cond.code ({ cls := "CrateDeck", name := "numberOf", desc := "(LCrateDeck$Layer;)I" } : Jvm.MethodName) prog_1_method_12_code (3 : Nat) (Option.some Jvm.ClassFile.FieldType.int)) ∈ lw_all := lw_g (lw_at lw_m3 42 rfl) rfl
theorem q608 : (Jvm.Cond.methodLink "CrateDeck" (143 : Nat) ({ cls := "CrateDeck$Layer", name := "isAlike", desc := "(LCrateDeck$Layer;)Z" } : Jvm.MethodName)) ∈ lw_all := lw_g (lw_at lw_m3 43 rfl) rfl
theorem q621 : (Jvm.Cond.methodLink "CrateDeck" (158 : Nat) ({ cls := "CrateDeck", name := "keep", desc := "(LCrateDeck$Layer;I)V" } : Jvm.MethodName)) ∈ lw_all := lw_g (lw_at lw_m3 56 rfl) rfl
theorem q622 : (Jvm.Cond.privateMethod ({ cls := "CrateDeck", name := "keep", desc := "(LCrateDeck$Layer;I)V" } : Jvm.MethodName)) ∈ lw_tbl := lw_at lw_m3 57 rfl
theorem q623 : (Jvm.Cond.instanceMethod ({ cls := "CrateDeck", name := "keep", desc := "(LCrateDeck$Layer;I)V" } : Jvm.MethodName)) ∈ lw_all := lw_g (lw_at lw_m3 58 rfl) rfl
theorem q624 : (Jvm.Cond.code ({ cls := "CrateDeck", name := "keep", desc := "(LCrateDeck$Layer;I)V" } : Jvm.MethodName) prog_1_method_13_code (4 : Nat) (Option.none : Option Jvm.ClassFile.FieldType)) ∈ lw_all := lw_g (lw_at lw_m3 59 rfl) rfl
theorem q625 : (Jvm.Cond.methodLink "CrateDeck" (147 : Nat) ({ cls := "CrateDeck$Layer", name := "copy", desc := "(LCrateDeck$Layer;)V" } : Jvm.MethodName)) ∈ lw_all := lw_g (lw_at lw_m3 60 rfl) rfl
theorem q657 : (Jvm.Cond.interfaceEntry "CrateDeck" (162 : Nat)) ∈ lw_tbl := lw_at lw_m3 92 rfl
theorem q658 : (Jvm.Cond.methodLink "CrateDeck" (162 : Nat) ({ cls := "java/util/List", name := "clear", desc := "()V" } : Jvm.MethodName)) ∈ lw_all := lw_g (lw_at lw_m3 93 rfl) rfl
theorem q696 : (Jvm.Cond.instanceMethod ({ cls := "CrateDeck", name := "image", desc := "(II)I" } : Jvm.MethodName)) ∈ lw_all := lw_g (lw_at lw_m3 131 rfl) rfl
theorem q697 : (Jvm.Cond.selects "CrateDeck" ({ cls := "CrateDeck", name := "image", desc := "(II)I" } : Jvm.MethodName) ({ cls := "CrateDeck", name := "image", desc := "(II)I" } : Jvm.MethodName)) ∈ lw_all := lw_g (lw_at lw_m3 132 rfl) rfl
theorem q698 : (Jvm.Cond.code ({ cls := "CrateDeck", name := "image", desc := "(II)I" } : Jvm.MethodName) prog_1_method_18_code (5 : Nat) (Option.some Jvm.ClassFile.FieldType.int)) ∈ lw_all := lw_g (lw_at lw_m3 133 rfl) rfl
theorem q699 : (Jvm.Cond.methodLink "CrateDeck" (191 : Nat) ({ cls := "CrateDeck", name := "checkThere", desc := "(II)V" } : Jvm.MethodName)) ∈ lw_all := lw_g (lw_at lw_m3 134 rfl) rfl
theorem q700 : (Jvm.Cond.static ({ cls := "CrateDeck", name := "checkThere", desc := "(II)V" } : Jvm.MethodName)) ∈ lw_all := lw_g (lw_at lw_m3 135 rfl) rfl
theorem q701 : (Jvm.Cond.code ({ cls := "CrateDeck", name := "checkThere", desc := "(II)V" } : Jvm.MethodName) prog_1_method_8_code (2 : Nat) (Option.none : Option Jvm.ClassFile.FieldType)) ∈ lw_all := lw_g (lw_at lw_m3 136 rfl) rfl
theorem q702 : (Jvm.Cond.classLink "CrateDeck" (102 : Nat) "java/lang/IndexOutOfBoundsException") ∈ lw_all := lw_g (lw_at lw_m3 137 rfl) rfl
theorem q711 : (Jvm.Cond.methodLink "CrateDeck" (104 : Nat) ({ cls := "java/lang/IndexOutOfBoundsException", name := "<init>", desc := "()V" } : Jvm.MethodName)) ∈ lw_all := lw_g (lw_at lw_m3 146 rfl) rfl
theorem q717 : (Jvm.Cond.methodLink "CrateDeck" (195 : Nat) ({ cls := "CrateDeck", name := "imageWith", desc := "(ILCrateDeck$Layer;I)I" } : Jvm.MethodName)) ∈ lw_all := lw_g (lw_at lw_m3 152 rfl) rfl
theorem q718 : (Jvm.Cond.privateMethod ({ cls := "CrateDeck", name := "imageWith", desc := "(ILCrateDeck$Layer;I)I" } : Jvm.MethodName)) ∈ lw_tbl := lw_at lw_m3 153 rfl
theorem q719 : (Jvm.Cond.instanceMethod ({ cls := "CrateDeck", name := "imageWith", desc := "(ILCrateDeck$Layer;I)I" } : Jvm.MethodName)) ∈ lw_all := lw_g (lw_at lw_m3 154 rfl) rfl
theorem q720 : (Jvm.Cond.code ({ cls := "CrateDeck", name := "imageWith", desc := "(ILCrateDeck$Layer;I)I" } : Jvm.MethodName) prog_1_method_17_code (6 : Nat) (Option.some Jvm.ClassFile.FieldType.int)) ∈ lw_all := lw_g (lw_at lw_m3 155 rfl) rfl
theorem q721 : (Jvm.Cond.methodLink "CrateDeck" (180 : Nat) ({ cls := "CrateDeck", name := "rowWith", desc := "(II)Ljava/util/List;" } : Jvm.MethodName)) ∈ lw_all := lw_g (lw_at lw_m3 156 rfl) rfl
theorem q722 : (Jvm.Cond.privateMethod ({ cls := "CrateDeck", name := "rowWith", desc := "(II)Ljava/util/List;" } : Jvm.MethodName)) ∈ lw_tbl := lw_at lw_m3 157 rfl
theorem q723 : (Jvm.Cond.instanceMethod ({ cls := "CrateDeck", name := "rowWith", desc := "(II)Ljava/util/List;" } : Jvm.MethodName)) ∈ lw_all := lw_g (lw_at lw_m3 158 rfl) rfl
theorem q724 : (Jvm.Cond.code ({ cls := "CrateDeck", name := "rowWith", desc := "(II)Ljava/util/List;" } : Jvm.MethodName) prog_1_method_15_code (4 : Nat) (Option.some (Jvm.ClassFile.FieldType.object "java/util/List"))) ∈ lw_all := lw_g (lw_at lw_m3 159 rfl) rfl
theorem q725 : (Jvm.Cond.methodLink "CrateDeck" (168 : Nat) ({ cls := "java/util/ArrayList", name := "<init>", desc := "(Ljava/util/Collection;)V" } : Jvm.MethodName)) ∈ lw_all := lw_g (lw_at lw_m3 160 rfl) rfl
theorem q739 : (Jvm.Cond.methodLink "CrateDeck" (171 : Nat) ({ cls := "java/lang/Integer", name := "valueOf", desc := "(I)Ljava/lang/Integer;" } : Jvm.MethodName)) ∈ lw_all := lw_g (lw_at lw_m3 174 rfl) rfl
theorem q759 : (Jvm.Cond.methodLink "CrateDeck" (184 : Nat) ({ cls := "CrateDeck", name := "numberOf", desc := "(Ljava/util/List;)I" } : Jvm.MethodName)) ∈ lw_all := lw_g (lw_at lw_m3 194 rfl) rfl
theorem q760 : (Jvm.Cond.privateMethod ({ cls := "CrateDeck", name := "numberOf", desc := "(Ljava/util/List;)I" } : Jvm.MethodName)) ∈ lw_tbl := lw_at lw_m3 195 rfl
theorem q761 : (Jvm.Cond.instanceMethod ({ cls := "CrateDeck", name := "numberOf", desc := "(Ljava/util/List;)I" } : Jvm.MethodName)) ∈ lw_all := lw_g (lw_at lw_m3 196 rfl) rfl
theorem q762 : (Jvm.Cond.code ({ cls := "CrateDeck", name := "numberOf", desc := "(Ljava/util/List;)I" } : Jvm.MethodName) prog_1_method_16_code (3 : Nat) (Option.some Jvm.ClassFile.FieldType.int)) ∈ lw_all := lw_g (lw_at lw_m3 197 rfl) rfl
theorem q763 : (Jvm.Cond.methodLink "CrateDeck" (177 : Nat) ({ cls := "CrateDeck$Image", name := "isAlike", desc := "(Ljava/util/List;)Z" } : Jvm.MethodName)) ∈ lw_all := lw_g (lw_at lw_m3 198 rfl) rfl
theorem q773 : (Jvm.Cond.interfaceEntry "CrateDeck" (187 : Nat)) ∈ lw_tbl := lw_at lw_m3 208 rfl
theorem q774 : (Jvm.Cond.methodLink "CrateDeck" (187 : Nat) ({ cls := "java/util/List", name := "addAll", desc := "(Ljava/util/Collection;)Z" } : Jvm.MethodName)) ∈ lw_all := lw_g (lw_at lw_m3 209 rfl) rfl
theorem q779 : (Jvm.Cond.instanceMethod ({ cls := "CrateDeck", name := "shows", desc := "(II)I" } : Jvm.MethodName)) ∈ lw_all := lw_g (lw_at lw_m3 214 rfl) rfl
theorem q780 : (Jvm.Cond.selects "CrateDeck" ({ cls := "CrateDeck", name := "shows", desc := "(II)I" } : Jvm.MethodName) ({ cls := "CrateDeck", name := "shows", desc := "(II)I" } : Jvm.MethodName)) ∈ lw_all := lw_g (lw_at lw_m3 215 rfl) rfl
theorem q781 : (Jvm.Cond.code ({ cls := "CrateDeck", name := "shows", desc := "(II)I" } : Jvm.MethodName) prog_1_method_20_code (3 : Nat) (Option.some Jvm.ClassFile.FieldType.int)) ∈ lw_all := lw_g (lw_at lw_m3 216 rfl) rfl
theorem q782 : (Jvm.Cond.methodLink "CrateDeck" (203 : Nat) ({ cls := "CrateDeck", name := "layTree", desc := "(LCrateDeck$Tree;I)V" } : Jvm.MethodName)) ∈ lw_all := lw_g (lw_at lw_m3 217 rfl) rfl
theorem q783 : (Jvm.Cond.privateMethod ({ cls := "CrateDeck", name := "layTree", desc := "(LCrateDeck$Tree;I)V" } : Jvm.MethodName)) ∈ lw_tbl := lw_at lw_m3 218 rfl
theorem q784 : (Jvm.Cond.instanceMethod ({ cls := "CrateDeck", name := "layTree", desc := "(LCrateDeck$Tree;I)V" } : Jvm.MethodName)) ∈ lw_all := lw_g (lw_at lw_m3 219 rfl) rfl
theorem q785 : (Jvm.Cond.code ({ cls := "CrateDeck", name := "layTree", desc := "(LCrateDeck$Tree;I)V" } : Jvm.MethodName) prog_1_method_19_code (5 : Nat) (Option.none : Option Jvm.ClassFile.FieldType)) ∈ lw_all := lw_g (lw_at lw_m3 220 rfl) rfl
theorem q786 : (Jvm.Cond.methodLink "CrateDeck" (207 : Nat) ({ cls := "CrateDeck$Tree", name := "shows", desc := "(I)I" } : Jvm.MethodName)) ∈ lw_all := lw_g (lw_at lw_m3 221 rfl) rfl
theorem q808 : (Jvm.Cond.static ({ cls := "CrateDeck", name := "isWithin", desc := "(II)Z" } : Jvm.MethodName)) ∈ lw_all := lw_g (lw_at lw_m4 3 rfl) rfl
theorem q809 : (Jvm.Cond.code ({ cls := "CrateDeck", name := "isWithin", desc := "(II)Z" } : Jvm.MethodName) prog_1_method_3_code (3 : Nat) (Option.some Jvm.ClassFile.FieldType.boolean)) ∈ lw_all := lw_g (lw_at lw_m4 4 rfl) rfl
theorem q810 : (Jvm.Cond.methodLink "CrateDeck" (3 : Nat) ({ cls := "CrateDeck", name := "digits", desc := "(I)I" } : Jvm.MethodName)) ∈ lw_all := lw_g (lw_at lw_m4 5 rfl) rfl
theorem q811 : (Jvm.Cond.static ({ cls := "CrateDeck", name := "digits", desc := "(I)I" } : Jvm.MethodName)) ∈ lw_all := lw_g (lw_at lw_m4 6 rfl) rfl
theorem q812 : (Jvm.Cond.code ({ cls := "CrateDeck", name := "digits", desc := "(I)I" } : Jvm.MethodName) prog_1_method_2_code (1 : Nat) (Option.some Jvm.ClassFile.FieldType.int)) ∈ lw_all := lw_g (lw_at lw_m4 7 rfl) rfl
theorem q819 : (Jvm.Cond.instanceMethod ({ cls := "CrateDeck", name := "showsByAll", desc := "(II)I" } : Jvm.MethodName)) ∈ lw_all := lw_g (lw_at lw_m4 14 rfl) rfl
theorem q820 : (Jvm.Cond.selects "CrateDeck" ({ cls := "CrateDeck", name := "showsByAll", desc := "(II)I" } : Jvm.MethodName) ({ cls := "CrateDeck", name := "showsByAll", desc := "(II)I" } : Jvm.MethodName)) ∈ lw_all := lw_g (lw_at lw_m4 15 rfl) rfl
theorem q821 : (Jvm.Cond.code ({ cls := "CrateDeck", name := "showsByAll", desc := "(II)I" } : Jvm.MethodName) prog_1_method_26_code (5 : Nat) (Option.some Jvm.ClassFile.FieldType.int)) ∈ lw_all := lw_g (lw_at lw_m4 16 rfl) rfl
theorem q822 : (Jvm.Cond.methodLink "CrateDeck" (244 : Nat) ({ cls := "CrateDeck", name := "layOn", desc := "(LCrateDeck$Layer;)V" } : Jvm.MethodName)) ∈ lw_all := lw_g (lw_at lw_m4 17 rfl) rfl
theorem q823 : (Jvm.Cond.privateMethod ({ cls := "CrateDeck", name := "layOn", desc := "(LCrateDeck$Layer;)V" } : Jvm.MethodName)) ∈ lw_tbl := lw_at lw_m4 18 rfl
theorem q824 : (Jvm.Cond.instanceMethod ({ cls := "CrateDeck", name := "layOn", desc := "(LCrateDeck$Layer;)V" } : Jvm.MethodName)) ∈ lw_all := lw_g (lw_at lw_m4 19 rfl) rfl
theorem q825 : (Jvm.Cond.code ({ cls := "CrateDeck", name := "layOn", desc := "(LCrateDeck$Layer;)V" } : Jvm.MethodName) prog_1_method_24_code (7 : Nat) (Option.none : Option Jvm.ClassFile.FieldType)) ∈ lw_all := lw_g (lw_at lw_m4 20 rfl) rfl
theorem q826 : (Jvm.Cond.methodLink "CrateDeck" (231 : Nat) ({ cls := "CrateDeck$Layer", name := "kindAt", desc := "(I)I" } : Jvm.MethodName)) ∈ lw_all := lw_g (lw_at lw_m4 21 rfl) rfl
theorem q827 : (Jvm.Cond.methodLink "CrateDeck" (234 : Nat) ({ cls := "CrateDeck", name := "isUnderNone", desc := "(LCrateDeck$Layer;I)Z" } : Jvm.MethodName)) ∈ lw_all := lw_g (lw_at lw_m4 22 rfl) rfl
theorem q828 : (Jvm.Cond.static ({ cls := "CrateDeck", name := "isUnderNone", desc := "(LCrateDeck$Layer;I)Z" } : Jvm.MethodName)) ∈ lw_all := lw_g (lw_at lw_m4 23 rfl) rfl
theorem q829 : (Jvm.Cond.code ({ cls := "CrateDeck", name := "isUnderNone", desc := "(LCrateDeck$Layer;I)Z" } : Jvm.MethodName) prog_1_method_25_code (5 : Nat) (Option.some Jvm.ClassFile.FieldType.boolean)) ∈ lw_all := lw_g (lw_at lw_m4 24 rfl) rfl
theorem q830 : (Jvm.Cond.classLink "CrateDeck" (218 : Nat) "CrateDeck$Entry") ∈ lw_all := lw_g (lw_at lw_m4 25 rfl) rfl
theorem q831 : (Jvm.Cond.methodLinkNest "CrateDeck" (238 : Nat) ({ cls := "CrateDeck$Entry", name := "<init>", desc := "(III)V" } : Jvm.MethodName) "CrateDeck") ∈ lw_tbl := lw_at lw_m4 26 rfl
theorem q832 : (Jvm.Cond.methodLink "CrateDeck" (240 : Nat) ({ cls := "CrateDeck", name := "layEntry", desc := "(LCrateDeck$Entry;)V" } : Jvm.MethodName)) ∈ lw_all := lw_g (lw_at lw_m4 27 rfl) rfl
theorem q833 : (Jvm.Cond.privateMethod ({ cls := "CrateDeck", name := "layEntry", desc := "(LCrateDeck$Entry;)V" } : Jvm.MethodName)) ∈ lw_tbl := lw_at lw_m4 28 rfl
theorem q834 : (Jvm.Cond.instanceMethod ({ cls := "CrateDeck", name := "layEntry", desc := "(LCrateDeck$Entry;)V" } : Jvm.MethodName)) ∈ lw_all := lw_g (lw_at lw_m4 29 rfl) rfl
theorem q835 : (Jvm.Cond.code ({ cls := "CrateDeck", name := "layEntry", desc := "(LCrateDeck$Entry;)V" } : Jvm.MethodName) prog_1_method_23_code (2 : Nat) (Option.none : Option Jvm.ClassFile.FieldType)) ∈ lw_all := lw_g (lw_at lw_m4 30 rfl) rfl
theorem q836 : (Jvm.Cond.methodLink "CrateDeck" (217 : Nat) ({ cls := "CrateDeck$Entry", name := "kind", desc := "()I" } : Jvm.MethodName)) ∈ lw_all := lw_g (lw_at lw_m4 31 rfl) rfl
theorem q837 : (Jvm.Cond.methodLink "CrateDeck" (222 : Nat) ({ cls := "CrateDeck$Entry", name := "path", desc := "()I" } : Jvm.MethodName)) ∈ lw_all := lw_g (lw_at lw_m4 32 rfl) rfl
theorem q838 : (Jvm.Cond.methodLink "CrateDeck" (214 : Nat) ({ cls := "CrateDeck", name := "clearWithin", desc := "(I)V" } : Jvm.MethodName)) ∈ lw_all := lw_g (lw_at lw_m4 33 rfl) rfl
theorem q839 : (Jvm.Cond.privateMethod ({ cls := "CrateDeck", name := "clearWithin", desc := "(I)V" } : Jvm.MethodName)) ∈ lw_tbl := lw_at lw_m4 34 rfl
theorem q840 : (Jvm.Cond.instanceMethod ({ cls := "CrateDeck", name := "clearWithin", desc := "(I)V" } : Jvm.MethodName)) ∈ lw_all := lw_g (lw_at lw_m4 35 rfl) rfl
theorem q841 : (Jvm.Cond.code ({ cls := "CrateDeck", name := "clearWithin", desc := "(I)V" } : Jvm.MethodName) prog_1_method_21_code (3 : Nat) (Option.none : Option Jvm.ClassFile.FieldType)) ∈ lw_all := lw_g (lw_at lw_m4 36 rfl) rfl
theorem q842 : (Jvm.Cond.methodLink "CrateDeck" (210 : Nat) ({ cls := "CrateDeck", name := "isWithin", desc := "(II)Z" } : Jvm.MethodName)) ∈ lw_all := lw_g (lw_at lw_m4 37 rfl) rfl
theorem q843 : (Jvm.Cond.methodLink "CrateDeck" (225 : Nat) ({ cls := "CrateDeck$Entry", name := "content", desc := "()I" } : Jvm.MethodName)) ∈ lw_all := lw_g (lw_at lw_m4 38 rfl) rfl
theorem q844 : (Jvm.Cond.methodLink "CrateDeck" (228 : Nat) ({ cls := "CrateDeck", name := "layFolder", desc := "(I)V" } : Jvm.MethodName)) ∈ lw_all := lw_g (lw_at lw_m4 39 rfl) rfl
theorem q845 : (Jvm.Cond.privateMethod ({ cls := "CrateDeck", name := "layFolder", desc := "(I)V" } : Jvm.MethodName)) ∈ lw_tbl := lw_at lw_m4 40 rfl
theorem q846 : (Jvm.Cond.instanceMethod ({ cls := "CrateDeck", name := "layFolder", desc := "(I)V" } : Jvm.MethodName)) ∈ lw_all := lw_g (lw_at lw_m4 41 rfl) rfl
theorem q847 : (Jvm.Cond.code ({ cls := "CrateDeck", name := "layFolder", desc := "(I)V" } : Jvm.MethodName) prog_1_method_22_code (2 : Nat) (Option.none : Option Jvm.ClassFile.FieldType)) ∈ lw_all := lw_g (lw_at lw_m4 42 rfl) rfl
theorem q852 : (Jvm.Cond.instanceMethod ({ cls := "CrateDeck", name := "start", desc := "(II)I" } : Jvm.MethodName)) ∈ lw_all := lw_g (lw_at lw_m4 47 rfl) rfl
theorem q853 : (Jvm.Cond.selects "CrateDeck" ({ cls := "CrateDeck", name := "start", desc := "(II)I" } : Jvm.MethodName) ({ cls := "CrateDeck", name := "start", desc := "(II)I" } : Jvm.MethodName)) ∈ lw_all := lw_g (lw_at lw_m4 48 rfl) rfl
theorem q854 : (Jvm.Cond.code ({ cls := "CrateDeck", name := "start", desc := "(II)I" } : Jvm.MethodName) prog_1_method_30_code (3 : Nat) (Option.some Jvm.ClassFile.FieldType.int)) ∈ lw_all := lw_g (lw_at lw_m4 49 rfl) rfl
theorem q855 : (Jvm.Cond.methodLink "CrateDeck" (263 : Nat) ({ cls := "CrateDeck", name := "canStart", desc := "(I)Z" } : Jvm.MethodName)) ∈ lw_all := lw_g (lw_at lw_m4 50 rfl) rfl
theorem q856 : (Jvm.Cond.privateMethod ({ cls := "CrateDeck", name := "canStart", desc := "(I)Z" } : Jvm.MethodName)) ∈ lw_tbl := lw_at lw_m4 51 rfl
theorem q857 : (Jvm.Cond.instanceMethod ({ cls := "CrateDeck", name := "canStart", desc := "(I)Z" } : Jvm.MethodName)) ∈ lw_all := lw_g (lw_at lw_m4 52 rfl) rfl
theorem q858 : (Jvm.Cond.code ({ cls := "CrateDeck", name := "canStart", desc := "(I)Z" } : Jvm.MethodName) prog_1_method_28_code (3 : Nat) (Option.some Jvm.ClassFile.FieldType.boolean)) ∈ lw_all := lw_g (lw_at lw_m4 53 rfl) rfl
theorem q859 : (Jvm.Cond.methodLink "CrateDeck" (266 : Nat) ({ cls := "CrateDeck", name := "begin", desc := "(III)LCrateDeck$Container;" } : Jvm.MethodName)) ∈ lw_all := lw_g (lw_at lw_m4 54 rfl) rfl
theorem q860 : (Jvm.Cond.privateMethod ({ cls := "CrateDeck", name := "begin", desc := "(III)LCrateDeck$Container;" } : Jvm.MethodName)) ∈ lw_tbl := lw_at lw_m4 55 rfl
theorem q861 : (Jvm.Cond.instanceMethod ({ cls := "CrateDeck", name := "begin", desc := "(III)LCrateDeck$Container;" } : Jvm.MethodName)) ∈ lw_all := lw_g (lw_at lw_m4 56 rfl) rfl
theorem q862 : (Jvm.Cond.code ({ cls := "CrateDeck", name := "begin", desc := "(III)LCrateDeck$Container;" } : Jvm.MethodName) prog_1_method_27_code (5 : Nat) (Option.some (Jvm.ClassFile.FieldType.object "CrateDeck$Container"))) ∈ lw_all := lw_g (lw_at lw_m4 57 rfl) rfl
theorem q864 : (Jvm.Cond.methodLink "CrateDeck" (250 : Nat) ({ cls := "CrateDeck$Container", name := "<init>", desc := "(IIII)V" } : Jvm.MethodName)) ∈ lw_all := lw_g (lw_at lw_m4 59 rfl) rfl
theorem q875 : (Jvm.Cond.fieldLinkNest "CrateDeck" (115 : Nat) "CrateDeck$Container" "number" "I" "CrateDeck") ∈ lw_tbl := lw_at lw_m4 70 rfl
theorem q877 : (Jvm.Cond.fieldLinkNest "CrateDeck" (286 : Nat) "CrateDeck$Container" "image" "I" "CrateDeck") ∈ lw_tbl := lw_at lw_m4 72 rfl
theorem q879 : (Jvm.Cond.fieldLinkNest "CrateDeck" (289 : Nat) "CrateDeck$Container" "name" "I" "CrateDeck") ∈ lw_tbl := lw_at lw_m4 74 rfl
theorem q881 : (Jvm.Cond.fieldLinkNest "CrateDeck" (492 : Nat) "CrateDeck$Container" "service" "I" "CrateDeck") ∈ lw_tbl := lw_at lw_m4 76 rfl
theorem q883 : (Jvm.Cond.fieldLinkNest "CrateDeck" (295 : Nat) "CrateDeck$Container" "isHealthy" "Z" "CrateDeck") ∈ lw_tbl := lw_at lw_m4 78 rfl
theorem q885 : (Jvm.Cond.fieldLinkNest "CrateDeck" (257 : Nat) "CrateDeck$Container" "own" "LCrateDeck$Layer;" "CrateDeck") ∈ lw_tbl := lw_at lw_m4 80 rfl
theorem q887 : (Jvm.Cond.fieldLinkNest "CrateDeck" (254 : Nat) "CrateDeck$Container" "tree" "LCrateDeck$Tree;" "CrateDeck") ∈ lw_tbl := lw_at lw_m4 82 rfl
theorem q889 : (Jvm.Cond.fieldLinkNest "CrateDeck" (251 : Nat) "CrateDeck$Container" "below" "LCrateDeck$Tree;" "CrateDeck") ∈ lw_tbl := lw_at lw_m4 84 rfl
theorem q891 : (Jvm.Cond.fieldLinkNest "CrateDeck" (345 : Nat) "CrateDeck$Container" "mounts" "Ljava/util/List;" "CrateDeck") ∈ lw_tbl := lw_at lw_m4 86 rfl
theorem q893 : (Jvm.Cond.fieldLinkNest "CrateDeck" (434 : Nat) "CrateDeck$Container" "addresses" "[I" "CrateDeck") ∈ lw_tbl := lw_at lw_m4 88 rfl
theorem q895 : (Jvm.Cond.fieldLinkNest "CrateDeck" (422 : Nat) "CrateDeck$Container" "filters" "Ljava/util/List;" "CrateDeck") ∈ lw_tbl := lw_at lw_m4 90 rfl
theorem q923 : (Jvm.Cond.instanceMethod ({ cls := "CrateDeck", name := "stop", desc := "(I)I" } : Jvm.MethodName)) ∈ lw_all := lw_g (lw_at lw_m4 118 rfl) rfl
theorem q924 : (Jvm.Cond.selects "CrateDeck" ({ cls := "CrateDeck", name := "stop", desc := "(I)I" } : Jvm.MethodName) ({ cls := "CrateDeck", name := "stop", desc := "(I)I" } : Jvm.MethodName)) ∈ lw_all := lw_g (lw_at lw_m4 119 rfl) rfl
theorem q925 : (Jvm.Cond.code ({ cls := "CrateDeck", name := "stop", desc := "(I)I" } : Jvm.MethodName) prog_1_method_32_code (2 : Nat) (Option.some Jvm.ClassFile.FieldType.int)) ∈ lw_all := lw_g (lw_at lw_m4 120 rfl) rfl
theorem q926 : (Jvm.Cond.methodLink "CrateDeck" (279 : Nat) ({ cls := "CrateDeck", name := "container", desc := "(I)LCrateDeck$Container;" } : Jvm.MethodName)) ∈ lw_all := lw_g (lw_at lw_m4 121 rfl) rfl
theorem q927 : (Jvm.Cond.privateMethod ({ cls := "CrateDeck", name := "container", desc := "(I)LCrateDeck$Container;" } : Jvm.MethodName)) ∈ lw_tbl := lw_at lw_m4 122 rfl
theorem q928 : (Jvm.Cond.instanceMethod ({ cls := "CrateDeck", name := "container", desc := "(I)LCrateDeck$Container;" } : Jvm.MethodName)) ∈ lw_all := lw_g (lw_at lw_m4 123 rfl) rfl
theorem q929 : (Jvm.Cond.code ({ cls := "CrateDeck", name := "container", desc := "(I)LCrateDeck$Container;" } : Jvm.MethodName) prog_1_method_9_code (3 : Nat) (Option.some (Jvm.ClassFile.FieldType.object "CrateDeck$Container"))) ∈ lw_all := lw_g (lw_at lw_m4 124 rfl) rfl
theorem q930 : (Jvm.Cond.methodLink "CrateDeck" (282 : Nat) ({ cls := "CrateDeck", name := "end", desc := "(LCrateDeck$Container;)V" } : Jvm.MethodName)) ∈ lw_all := lw_g (lw_at lw_m4 125 rfl) rfl
theorem q931 : (Jvm.Cond.privateMethod ({ cls := "CrateDeck", name := "end", desc := "(LCrateDeck$Container;)V" } : Jvm.MethodName)) ∈ lw_tbl := lw_at lw_m4 126 rfl
theorem q932 : (Jvm.Cond.instanceMethod ({ cls := "CrateDeck", name := "end", desc := "(LCrateDeck$Container;)V" } : Jvm.MethodName)) ∈ lw_all := lw_g (lw_at lw_m4 127 rfl) rfl
theorem q933 : (Jvm.Cond.code ({ cls := "CrateDeck", name := "end", desc := "(LCrateDeck$Container;)V" } : Jvm.MethodName) prog_1_method_31_code (4 : Nat) (Option.none : Option Jvm.ClassFile.FieldType)) ∈ lw_all := lw_g (lw_at lw_m4 128 rfl) rfl
theorem q934 : (Jvm.Cond.interfaceEntry "CrateDeck" (270 : Nat)) ∈ lw_tbl := lw_at lw_m4 129 rfl
theorem q935 : (Jvm.Cond.methodLink "CrateDeck" (270 : Nat) ({ cls := "java/util/List", name := "remove", desc := "(Ljava/lang/Object;)Z" } : Jvm.MethodName)) ∈ lw_all := lw_g (lw_at lw_m4 130 rfl) rfl
theorem q947 : (Jvm.Cond.selects "CrateDeck" ({ cls := "java/lang/Object", name := "equals", desc := "(Ljava/lang/Object;)Z" } : Jvm.MethodName) ({ cls := "java/lang/Object", name := "equals", desc := "(Ljava/lang/Object;)Z" } : Jvm.MethodName)) ∈ lw_all := lw_g (lw_at lw_m4 142 rfl) rfl
theorem q982 : (Jvm.Cond.classLink "CrateDeck" (119 : Nat) "CrateDeck$Process") ∈ lw_all := lw_g (lw_at lw_m4 177 rfl) rfl
theorem q983 : (Jvm.Cond.interfaceEntry "CrateDeck" (276 : Nat)) ∈ lw_tbl := lw_at lw_m4 178 rfl
theorem q984 : (Jvm.Cond.methodLink "CrateDeck" (276 : Nat) ({ cls := "java/util/List", name := "remove", desc := "(I)Ljava/lang/Object;" } : Jvm.MethodName)) ∈ lw_all := lw_g (lw_at lw_m4 179 rfl) rfl
theorem q989 : (Jvm.Cond.instanceMethod ({ cls := "CrateDeck", name := "container", desc := "(II)I" } : Jvm.MethodName)) ∈ lw_all := lw_g (lw_at lw_m4 184 rfl) rfl
theorem q990 : (Jvm.Cond.selects "CrateDeck" ({ cls := "CrateDeck", name := "container", desc := "(II)I" } : Jvm.MethodName) ({ cls := "CrateDeck", name := "container", desc := "(II)I" } : Jvm.MethodName)) ∈ lw_all := lw_g (lw_at lw_m4 185 rfl) rfl
theorem q991 : (Jvm.Cond.code ({ cls := "CrateDeck", name := "container", desc := "(II)I" } : Jvm.MethodName) prog_1_method_34_code (4 : Nat) (Option.some Jvm.ClassFile.FieldType.int)) ∈ lw_all := lw_g (lw_at lw_m4 186 rfl) rfl
theorem q992 : (Jvm.Cond.methodLink "CrateDeck" (292 : Nat) ({ cls := "CrateDeck", name := "manyProcesses", desc := "(I)I" } : Jvm.MethodName)) ∈ lw_all := lw_g (lw_at lw_m4 187 rfl) rfl
theorem q993 : (Jvm.Cond.privateMethod ({ cls := "CrateDeck", name := "manyProcesses", desc := "(I)I" } : Jvm.MethodName)) ∈ lw_tbl := lw_at lw_m4 188 rfl
theorem q994 : (Jvm.Cond.instanceMethod ({ cls := "CrateDeck", name := "manyProcesses", desc := "(I)I" } : Jvm.MethodName)) ∈ lw_all := lw_g (lw_at lw_m4 189 rfl) rfl
theorem q995 : (Jvm.Cond.code ({ cls := "CrateDeck", name := "manyProcesses", desc := "(I)I" } : Jvm.MethodName) prog_1_method_33_code (4 : Nat) (Option.some Jvm.ClassFile.FieldType.int)) ∈ lw_all := lw_g (lw_at lw_m4 190 rfl) rfl
theorem q1000 : (Jvm.Cond.instanceMethod ({ cls := "CrateDeck", name := "look", desc := "(II)I" } : Jvm.MethodName)) ∈ lw_all := lw_g (lw_at lw_m4 195 rfl) rfl
theorem q1001 : (Jvm.Cond.selects "CrateDeck" ({ cls := "CrateDeck", name := "look", desc := "(II)I" } : Jvm.MethodName) ({ cls := "CrateDeck", name := "look", desc := "(II)I" } : Jvm.MethodName)) ∈ lw_all := lw_g (lw_at lw_m4 196 rfl) rfl
theorem q1002 : (Jvm.Cond.code ({ cls := "CrateDeck", name := "look", desc := "(II)I" } : Jvm.MethodName) prog_1_method_36_code (4 : Nat) (Option.some Jvm.ClassFile.FieldType.int)) ∈ lw_all := lw_g (lw_at lw_m4 197 rfl) rfl
theorem q1003 : (Jvm.Cond.methodLink "CrateDeck" (309 : Nat) ({ cls := "CrateDeck", name := "shown", desc := "(LCrateDeck$Container;I)I" } : Jvm.MethodName)) ∈ lw_all := lw_g (lw_at lw_m4 198 rfl) rfl
theorem q1004 : (Jvm.Cond.privateMethod ({ cls := "CrateDeck", name := "shown", desc := "(LCrateDeck$Container;I)I" } : Jvm.MethodName)) ∈ lw_tbl := lw_at lw_m4 199 rfl
theorem q1005 : (Jvm.Cond.instanceMethod ({ cls := "CrateDeck", name := "shown", desc := "(LCrateDeck$Container;I)I" } : Jvm.MethodName)) ∈ lw_all := lw_g (lw_at lw_m4 200 rfl) rfl
theorem q1006 : (Jvm.Cond.code ({ cls := "CrateDeck", name := "shown", desc := "(LCrateDeck$Container;I)I" } : Jvm.MethodName) prog_1_method_35_code (5 : Nat) (Option.some Jvm.ClassFile.FieldType.int)) ∈ lw_all := lw_g (lw_at lw_m4 201 rfl) rfl
theorem q1007 : (Jvm.Cond.methodLink "CrateDeck" (299 : Nat) ({ cls := "CrateDeck$Container", name := "mountOver", desc := "(I)LCrateDeck$Mount;" } : Jvm.MethodName)) ∈ lw_all := lw_g (lw_at lw_m4 202 rfl) rfl
theorem q1021 : (Jvm.Cond.methodLink "CrateDeck" (303 : Nat) ({ cls := "CrateDeck$Mount", name := "path", desc := "()I" } : Jvm.MethodName)) ∈ lw_all := lw_g (lw_at lw_m4 216 rfl) rfl
theorem q1022 : (Jvm.Cond.methodLink "CrateDeck" (306 : Nat) ({ cls := "CrateDeck$Mount", name := "volume", desc := "()I" } : Jvm.MethodName)) ∈ lw_all := lw_g (lw_at lw_m4 217 rfl) rfl
theorem q1030 : (Jvm.Cond.instanceMethod ({ cls := "CrateDeck", name := "write", desc := "(III)I" } : Jvm.MethodName)) ∈ lw_all := lw_g (lw_at lw_m4 225 rfl) rfl
theorem q1031 : (Jvm.Cond.selects "CrateDeck" ({ cls := "CrateDeck", name := "write", desc := "(III)I" } : Jvm.MethodName) ({ cls := "CrateDeck", name := "write", desc := "(III)I" } : Jvm.MethodName)) ∈ lw_all := lw_g (lw_at lw_m4 226 rfl) rfl
theorem q1032 : (Jvm.Cond.code ({ cls := "CrateDeck", name := "write", desc := "(III)I" } : Jvm.MethodName) prog_1_method_37_code (7 : Nat) (Option.some Jvm.ClassFile.FieldType.int)) ∈ lw_all := lw_g (lw_at lw_m4 227 rfl) rfl
theorem q1037 : (Jvm.Cond.instanceMethod ({ cls := "CrateDeck", name := "makeFolder", desc := "(II)V" } : Jvm.MethodName)) ∈ lw_all := lw_g (lw_at lw_m4 232 rfl) rfl
theorem q1038 : (Jvm.Cond.selects "CrateDeck" ({ cls := "CrateDeck", name := "makeFolder", desc := "(II)V" } : Jvm.MethodName) ({ cls := "CrateDeck", name := "makeFolder", desc := "(II)V" } : Jvm.MethodName)) ∈ lw_all := lw_g (lw_at lw_m4 233 rfl) rfl
theorem q1039 : (Jvm.Cond.code ({ cls := "CrateDeck", name := "makeFolder", desc := "(II)V" } : Jvm.MethodName) prog_1_method_38_code (5 : Nat) (Option.none : Option Jvm.ClassFile.FieldType)) ∈ lw_all := lw_g (lw_at lw_m4 234 rfl) rfl
theorem q1040 : (Jvm.Cond.methodLink "CrateDeck" (313 : Nat) ({ cls := "CrateDeck", name := "hasWhiteout", desc := "(LCrateDeck$Container;I)Z" } : Jvm.MethodName)) ∈ lw_all := lw_g (lw_at lw_m4 235 rfl) rfl
theorem q1041 : (Jvm.Cond.static ({ cls := "CrateDeck", name := "hasWhiteout", desc := "(LCrateDeck$Container;I)Z" } : Jvm.MethodName)) ∈ lw_all := lw_g (lw_at lw_m4 236 rfl) rfl
theorem q1042 : (Jvm.Cond.code ({ cls := "CrateDeck", name := "hasWhiteout", desc := "(LCrateDeck$Container;I)Z" } : Jvm.MethodName) prog_1_method_39_code (3 : Nat) (Option.some Jvm.ClassFile.FieldType.boolean)) ∈ lw_all := lw_g (lw_at lw_m4 237 rfl) rfl
theorem q1047 : (Jvm.Cond.instanceMethod ({ cls := "CrateDeck", name := "remove", desc := "(II)I" } : Jvm.MethodName)) ∈ lw_all := lw_g (lw_at lw_m5 2 rfl) rfl
theorem q1048 : (Jvm.Cond.selects "CrateDeck" ({ cls := "CrateDeck", name := "remove", desc := "(II)I" } : Jvm.MethodName) ({ cls := "CrateDeck", name := "remove", desc := "(II)I" } : Jvm.MethodName)) ∈ lw_all := lw_g (lw_at lw_m5 3 rfl) rfl
theorem q1049 : (Jvm.Cond.code ({ cls := "CrateDeck", name := "remove", desc := "(II)I" } : Jvm.MethodName) prog_1_method_43_code (6 : Nat) (Option.some Jvm.ClassFile.FieldType.int)) ∈ lw_all := lw_g (lw_at lw_m5 4 rfl) rfl
theorem q1050 : (Jvm.Cond.methodLink "CrateDeck" (320 : Nat) ({ cls := "CrateDeck$Container", name := "hasMountWithin", desc := "(I)Z" } : Jvm.MethodName)) ∈ lw_all := lw_g (lw_at lw_m5 5 rfl) rfl
theorem q1054 : (Jvm.Cond.methodLink "CrateDeck" (323 : Nat) ({ cls := "CrateDeck", name := "hide", desc := "(LCrateDeck$Container;I)V" } : Jvm.MethodName)) ∈ lw_all := lw_g (lw_at lw_m5 9 rfl) rfl
theorem q1055 : (Jvm.Cond.static ({ cls := "CrateDeck", name := "hide", desc := "(LCrateDeck$Container;I)V" } : Jvm.MethodName)) ∈ lw_all := lw_g (lw_at lw_m5 10 rfl) rfl
theorem q1056 : (Jvm.Cond.code ({ cls := "CrateDeck", name := "hide", desc := "(LCrateDeck$Container;I)V" } : Jvm.MethodName) prog_1_method_40_code (2 : Nat) (Option.none : Option Jvm.ClassFile.FieldType)) ∈ lw_all := lw_g (lw_at lw_m5 11 rfl) rfl
theorem q1057 : (Jvm.Cond.methodLink "CrateDeck" (317 : Nat) ({ cls := "CrateDeck$Layer", name := "dropWithin", desc := "(I)V" } : Jvm.MethodName)) ∈ lw_all := lw_g (lw_at lw_m5 12 rfl) rfl
theorem q1061 : (Jvm.Cond.methodLink "CrateDeck" (327 : Nat) ({ cls := "CrateDeck", name := "checkRoom", desc := "(LCrateDeck$Container;)V" } : Jvm.MethodName)) ∈ lw_all := lw_g (lw_at lw_m5 16 rfl) rfl
theorem q1062 : (Jvm.Cond.privateMethod ({ cls := "CrateDeck", name := "checkRoom", desc := "(LCrateDeck$Container;)V" } : Jvm.MethodName)) ∈ lw_tbl := lw_at lw_m5 17 rfl
theorem q1063 : (Jvm.Cond.instanceMethod ({ cls := "CrateDeck", name := "checkRoom", desc := "(LCrateDeck$Container;)V" } : Jvm.MethodName)) ∈ lw_all := lw_g (lw_at lw_m5 18 rfl) rfl
theorem q1064 : (Jvm.Cond.code ({ cls := "CrateDeck", name := "checkRoom", desc := "(LCrateDeck$Container;)V" } : Jvm.MethodName) prog_1_method_42_code (2 : Nat) (Option.none : Option Jvm.ClassFile.FieldType)) ∈ lw_all := lw_g (lw_at lw_m5 19 rfl) rfl
theorem q1069 : (Jvm.Cond.instanceMethod ({ cls := "CrateDeck", name := "move", desc := "(III)V" } : Jvm.MethodName)) ∈ lw_all := lw_g (lw_at lw_m5 24 rfl) rfl
theorem q1070 : (Jvm.Cond.selects "CrateDeck" ({ cls := "CrateDeck", name := "move", desc := "(III)V" } : Jvm.MethodName) ({ cls := "CrateDeck", name := "move", desc := "(III)V" } : Jvm.MethodName)) ∈ lw_all := lw_g (lw_at lw_m5 25 rfl) rfl
theorem q1071 : (Jvm.Cond.code ({ cls := "CrateDeck", name := "move", desc := "(III)V" } : Jvm.MethodName) prog_1_method_46_code (6 : Nat) (Option.none : Option Jvm.ClassFile.FieldType)) ∈ lw_all := lw_g (lw_at lw_m5 26 rfl) rfl
theorem q1072 : (Jvm.Cond.methodLink "CrateDeck" (330 : Nat) ({ cls := "CrateDeck", name := "isFree", desc := "(LCrateDeck$Container;I)Z" } : Jvm.MethodName)) ∈ lw_all := lw_g (lw_at lw_m5 27 rfl) rfl
theorem q1073 : (Jvm.Cond.static ({ cls := "CrateDeck", name := "isFree", desc := "(LCrateDeck$Container;I)Z" } : Jvm.MethodName)) ∈ lw_all := lw_g (lw_at lw_m5 28 rfl) rfl
theorem q1074 : (Jvm.Cond.code ({ cls := "CrateDeck", name := "isFree", desc := "(LCrateDeck$Container;I)Z" } : Jvm.MethodName) prog_1_method_41_code (2 : Nat) (Option.some Jvm.ClassFile.FieldType.boolean)) ∈ lw_all := lw_g (lw_at lw_m5 29 rfl) rfl
theorem q1075 : (Jvm.Cond.methodLink "CrateDeck" (333 : Nat) ({ cls := "CrateDeck", name := "canHold", desc := "(LCrateDeck$Container;II)Z" } : Jvm.MethodName)) ∈ lw_all := lw_g (lw_at lw_m5 30 rfl) rfl
theorem q1076 : (Jvm.Cond.static ({ cls := "CrateDeck", name := "canHold", desc := "(LCrateDeck$Container;II)Z" } : Jvm.MethodName)) ∈ lw_all := lw_g (lw_at lw_m5 31 rfl) rfl
theorem q1077 : (Jvm.Cond.code ({ cls := "CrateDeck", name := "canHold", desc := "(LCrateDeck$Container;II)Z" } : Jvm.MethodName) prog_1_method_44_code (6 : Nat) (Option.some Jvm.ClassFile.FieldType.boolean)) ∈ lw_all := lw_g (lw_at lw_m5 32 rfl) rfl
theorem q1078 : (Jvm.Cond.methodLink "CrateDeck" (337 : Nat) ({ cls := "CrateDeck", name := "moveFolder", desc := "(LCrateDeck$Container;II)V" } : Jvm.MethodName)) ∈ lw_all := lw_g (lw_at lw_m5 33 rfl) rfl
theorem q1079 : (Jvm.Cond.privateMethod ({ cls := "CrateDeck", name := "moveFolder", desc := "(LCrateDeck$Container;II)V" } : Jvm.MethodName)) ∈ lw_tbl := lw_at lw_m5 34 rfl
theorem q1080 : (Jvm.Cond.instanceMethod ({ cls := "CrateDeck", name := "moveFolder", desc := "(LCrateDeck$Container;II)V" } : Jvm.MethodName)) ∈ lw_all := lw_g (lw_at lw_m5 35 rfl) rfl
theorem q1081 : (Jvm.Cond.code ({ cls := "CrateDeck", name := "moveFolder", desc := "(LCrateDeck$Container;II)V" } : Jvm.MethodName) prog_1_method_47_code (8 : Nat) (Option.none : Option Jvm.ClassFile.FieldType)) ∈ lw_all := lw_g (lw_at lw_m5 36 rfl) rfl
theorem q1082 : (Jvm.Cond.methodLink "CrateDeck" (341 : Nat) ({ cls := "CrateDeck", name := "moved", desc := "(III)I" } : Jvm.MethodName)) ∈ lw_all := lw_g (lw_at lw_m5 37 rfl) rfl
theorem q1083 : (Jvm.Cond.static ({ cls := "CrateDeck", name := "moved", desc := "(III)I" } : Jvm.MethodName)) ∈ lw_all := lw_g (lw_at lw_m5 38 rfl) rfl
theorem q1084 : (Jvm.Cond.code ({ cls := "CrateDeck", name := "moved", desc := "(III)I" } : Jvm.MethodName) prog_1_method_45_code (4 : Nat) (Option.some Jvm.ClassFile.FieldType.int)) ∈ lw_all := lw_g (lw_at lw_m5 39 rfl) rfl
theorem q1089 : (Jvm.Cond.instanceMethod ({ cls := "CrateDeck", name := "mount", desc := "(III)V" } : Jvm.MethodName)) ∈ lw_all := lw_g (lw_at lw_m5 44 rfl) rfl
theorem q1090 : (Jvm.Cond.selects "CrateDeck" ({ cls := "CrateDeck", name := "mount", desc := "(III)V" } : Jvm.MethodName) ({ cls := "CrateDeck", name := "mount", desc := "(III)V" } : Jvm.MethodName)) ∈ lw_all := lw_g (lw_at lw_m5 45 rfl) rfl
theorem q1091 : (Jvm.Cond.code ({ cls := "CrateDeck", name := "mount", desc := "(III)V" } : Jvm.MethodName) prog_1_method_48_code (5 : Nat) (Option.none : Option Jvm.ClassFile.FieldType)) ∈ lw_all := lw_g (lw_at lw_m5 46 rfl) rfl
theorem q1092 : (Jvm.Cond.classLink "CrateDeck" (304 : Nat) "CrateDeck$Mount") ∈ lw_all := lw_g (lw_at lw_m5 47 rfl) rfl
theorem q1094 : (Jvm.Cond.methodLinkNest "CrateDeck" (348 : Nat) ({ cls := "CrateDeck$Mount", name := "<init>", desc := "(II)V" } : Jvm.MethodName) "CrateDeck") ∈ lw_tbl := lw_at lw_m5 49 rfl
theorem q1109 : (Jvm.Cond.instanceMethod ({ cls := "CrateDeck", name := "commit", desc := "(I)I" } : Jvm.MethodName)) ∈ lw_all := lw_g (lw_at lw_m5 64 rfl) rfl
theorem q1110 : (Jvm.Cond.selects "CrateDeck" ({ cls := "CrateDeck", name := "commit", desc := "(I)I" } : Jvm.MethodName) ({ cls := "CrateDeck", name := "commit", desc := "(I)I" } : Jvm.MethodName)) ∈ lw_all := lw_g (lw_at lw_m5 65 rfl) rfl
theorem q1111 : (Jvm.Cond.code ({ cls := "CrateDeck", name := "commit", desc := "(I)I" } : Jvm.MethodName) prog_1_method_49_code (3 : Nat) (Option.some Jvm.ClassFile.FieldType.int)) ∈ lw_all := lw_g (lw_at lw_m5 66 rfl) rfl
theorem q1116 : (Jvm.Cond.instanceMethod ({ cls := "CrateDeck", name := "user", desc := "(I)I" } : Jvm.MethodName)) ∈ lw_all := lw_g (lw_at lw_m5 71 rfl) rfl
theorem q1117 : (Jvm.Cond.selects "CrateDeck" ({ cls := "CrateDeck", name := "user", desc := "(I)I" } : Jvm.MethodName) ({ cls := "CrateDeck", name := "user", desc := "(I)I" } : Jvm.MethodName)) ∈ lw_all := lw_g (lw_at lw_m5 72 rfl) rfl
theorem q1118 : (Jvm.Cond.code ({ cls := "CrateDeck", name := "user", desc := "(I)I" } : Jvm.MethodName) prog_1_method_51_code (2 : Nat) (Option.some Jvm.ClassFile.FieldType.int)) ∈ lw_all := lw_g (lw_at lw_m5 73 rfl) rfl
theorem q1119 : (Jvm.Cond.methodLink "CrateDeck" (350 : Nat) ({ cls := "CrateDeck", name := "user", desc := "(IZ)LCrateDeck$User;" } : Jvm.MethodName)) ∈ lw_all := lw_g (lw_at lw_m5 74 rfl) rfl
theorem q1120 : (Jvm.Cond.privateMethod ({ cls := "CrateDeck", name := "user", desc := "(IZ)LCrateDeck$User;" } : Jvm.MethodName)) ∈ lw_tbl := lw_at lw_m5 75 rfl
theorem q1121 : (Jvm.Cond.instanceMethod ({ cls := "CrateDeck", name := "user", desc := "(IZ)LCrateDeck$User;" } : Jvm.MethodName)) ∈ lw_all := lw_g (lw_at lw_m5 76 rfl) rfl
theorem q1122 : (Jvm.Cond.code ({ cls := "CrateDeck", name := "user", desc := "(IZ)LCrateDeck$User;" } : Jvm.MethodName) prog_1_method_50_code (3 : Nat) (Option.some (Jvm.ClassFile.FieldType.object "CrateDeck$User"))) ∈ lw_all := lw_g (lw_at lw_m5 77 rfl) rfl
theorem q1127 : (Jvm.Cond.instanceMethod ({ cls := "CrateDeck", name := "range", desc := "(IIII)I" } : Jvm.MethodName)) ∈ lw_all := lw_g (lw_at lw_m5 82 rfl) rfl
theorem q1128 : (Jvm.Cond.selects "CrateDeck" ({ cls := "CrateDeck", name := "range", desc := "(IIII)I" } : Jvm.MethodName) ({ cls := "CrateDeck", name := "range", desc := "(IIII)I" } : Jvm.MethodName)) ∈ lw_all := lw_g (lw_at lw_m5 83 rfl) rfl
theorem q1129 : (Jvm.Cond.code ({ cls := "CrateDeck", name := "range", desc := "(IIII)I" } : Jvm.MethodName) prog_1_method_52_code (7 : Nat) (Option.some Jvm.ClassFile.FieldType.int)) ∈ lw_all := lw_g (lw_at lw_m5 84 rfl) rfl
theorem q1130 : (Jvm.Cond.methodLink "CrateDeck" (354 : Nat) ({ cls := "java/lang/Math", name := "max", desc := "(II)I" } : Jvm.MethodName)) ∈ lw_all := lw_g (lw_at lw_m5 85 rfl) rfl
theorem q1131 : (Jvm.Cond.classLink "CrateDeck" (363 : Nat) "CrateDeck$Range") ∈ lw_all := lw_g (lw_at lw_m5 86 rfl) rfl
theorem q1132 : (Jvm.Cond.methodLink "CrateDeck" (365 : Nat) ({ cls := "CrateDeck$Range", name := "meets", desc := "(III)Z" } : Jvm.MethodName)) ∈ lw_all := lw_g (lw_at lw_m5 87 rfl) rfl
theorem q1137 : (Jvm.Cond.methodLinkNest "CrateDeck" (369 : Nat) ({ cls := "CrateDeck$Range", name := "<init>", desc := "(III)V" } : Jvm.MethodName) "CrateDeck") ∈ lw_tbl := lw_at lw_m5 92 rfl
theorem q1155 : (Jvm.Cond.instanceMethod ({ cls := "CrateDeck", name := "hostId", desc := "(II)I" } : Jvm.MethodName)) ∈ lw_all := lw_g (lw_at lw_m5 110 rfl) rfl
theorem q1156 : (Jvm.Cond.selects "CrateDeck" ({ cls := "CrateDeck", name := "hostId", desc := "(II)I" } : Jvm.MethodName) ({ cls := "CrateDeck", name := "hostId", desc := "(II)I" } : Jvm.MethodName)) ∈ lw_all := lw_g (lw_at lw_m5 111 rfl) rfl
theorem q1157 : (Jvm.Cond.code ({ cls := "CrateDeck", name := "hostId", desc := "(II)I" } : Jvm.MethodName) prog_1_method_53_code (5 : Nat) (Option.some Jvm.ClassFile.FieldType.int)) ∈ lw_all := lw_g (lw_at lw_m5 112 rfl) rfl
theorem q1158 : (Jvm.Cond.methodLink "CrateDeck" (373 : Nat) ({ cls := "CrateDeck$User", name := "outside", desc := "(I)I" } : Jvm.MethodName)) ∈ lw_all := lw_g (lw_at lw_m5 113 rfl) rfl
theorem q1183 : (Jvm.Cond.instanceMethod ({ cls := "CrateDeck", name := "canAct", desc := "(II)Z" } : Jvm.MethodName)) ∈ lw_all := lw_g (lw_at lw_m5 138 rfl) rfl
theorem q1184 : (Jvm.Cond.selects "CrateDeck" ({ cls := "CrateDeck", name := "canAct", desc := "(II)Z" } : Jvm.MethodName) ({ cls := "CrateDeck", name := "canAct", desc := "(II)Z" } : Jvm.MethodName)) ∈ lw_all := lw_g (lw_at lw_m5 139 rfl) rfl
theorem q1185 : (Jvm.Cond.code ({ cls := "CrateDeck", name := "canAct", desc := "(II)Z" } : Jvm.MethodName) prog_1_method_54_code (4 : Nat) (Option.some Jvm.ClassFile.FieldType.boolean)) ∈ lw_all := lw_g (lw_at lw_m5 140 rfl) rfl
theorem q1190 : (Jvm.Cond.instanceMethod ({ cls := "CrateDeck", name := "group", desc := "(IIII)I" } : Jvm.MethodName)) ∈ lw_all := lw_g (lw_at lw_m5 145 rfl) rfl
theorem q1191 : (Jvm.Cond.selects "CrateDeck" ({ cls := "CrateDeck", name := "group", desc := "(IIII)I" } : Jvm.MethodName) ({ cls := "CrateDeck", name := "group", desc := "(IIII)I" } : Jvm.MethodName)) ∈ lw_all := lw_g (lw_at lw_m5 146 rfl) rfl
theorem q1192 : (Jvm.Cond.code ({ cls := "CrateDeck", name := "group", desc := "(IIII)I" } : Jvm.MethodName) prog_1_method_56_code (5 : Nat) (Option.some Jvm.ClassFile.FieldType.int)) ∈ lw_all := lw_g (lw_at lw_m5 147 rfl) rfl
theorem q1193 : (Jvm.Cond.methodLink "CrateDeck" (376 : Nat) ({ cls := "CrateDeck", name := "group", desc := "(I)LCrateDeck$Group;" } : Jvm.MethodName)) ∈ lw_all := lw_g (lw_at lw_m5 148 rfl) rfl
theorem q1194 : (Jvm.Cond.privateMethod ({ cls := "CrateDeck", name := "group", desc := "(I)LCrateDeck$Group;" } : Jvm.MethodName)) ∈ lw_tbl := lw_at lw_m5 149 rfl
theorem q1195 : (Jvm.Cond.instanceMethod ({ cls := "CrateDeck", name := "group", desc := "(I)LCrateDeck$Group;" } : Jvm.MethodName)) ∈ lw_all := lw_g (lw_at lw_m5 150 rfl) rfl
theorem q1196 : (Jvm.Cond.code ({ cls := "CrateDeck", name := "group", desc := "(I)LCrateDeck$Group;" } : Jvm.MethodName) prog_1_method_55_code (2 : Nat) (Option.some (Jvm.ClassFile.FieldType.object "CrateDeck$Group"))) ∈ lw_all := lw_g (lw_at lw_m5 151 rfl) rfl
theorem q1201 : (Jvm.Cond.instanceMethod ({ cls := "CrateDeck", name := "run", desc := "(II)I" } : Jvm.MethodName)) ∈ lw_all := lw_g (lw_at lw_m5 156 rfl) rfl
theorem q1202 : (Jvm.Cond.selects "CrateDeck" ({ cls := "CrateDeck", name := "run", desc := "(II)I" } : Jvm.MethodName) ({ cls := "CrateDeck", name := "run", desc := "(II)I" } : Jvm.MethodName)) ∈ lw_all := lw_g (lw_at lw_m5 157 rfl) rfl
theorem q1203 : (Jvm.Cond.code ({ cls := "CrateDeck", name := "run", desc := "(II)I" } : Jvm.MethodName) prog_1_method_60_code (4 : Nat) (Option.some Jvm.ClassFile.FieldType.int)) ∈ lw_all := lw_g (lw_at lw_m5 158 rfl) rfl
theorem q1204 : (Jvm.Cond.methodLink "CrateDeck" (389 : Nat) ({ cls := "CrateDeck", name := "manyIn", desc := "(I)I" } : Jvm.MethodName)) ∈ lw_all := lw_g (lw_at lw_m5 159 rfl) rfl
theorem q1205 : (Jvm.Cond.privateMethod ({ cls := "CrateDeck", name := "manyIn", desc := "(I)I" } : Jvm.MethodName)) ∈ lw_tbl := lw_at lw_m5 160 rfl
theorem q1206 : (Jvm.Cond.instanceMethod ({ cls := "CrateDeck", name := "manyIn", desc := "(I)I" } : Jvm.MethodName)) ∈ lw_all := lw_g (lw_at lw_m5 161 rfl) rfl
theorem q1207 : (Jvm.Cond.code ({ cls := "CrateDeck", name := "manyIn", desc := "(I)I" } : Jvm.MethodName) prog_1_method_58_code (4 : Nat) (Option.some Jvm.ClassFile.FieldType.int)) ∈ lw_all := lw_g (lw_at lw_m5 162 rfl) rfl
theorem q1208 : (Jvm.Cond.methodLink "CrateDeck" (383 : Nat) ({ cls := "CrateDeck", name := "isIn", desc := "(II)Z" } : Jvm.MethodName)) ∈ lw_all := lw_g (lw_at lw_m5 163 rfl) rfl
theorem q1209 : (Jvm.Cond.privateMethod ({ cls := "CrateDeck", name := "isIn", desc := "(II)Z" } : Jvm.MethodName)) ∈ lw_tbl := lw_at lw_m5 164 rfl
theorem q1210 : (Jvm.Cond.instanceMethod ({ cls := "CrateDeck", name := "isIn", desc := "(II)Z" } : Jvm.MethodName)) ∈ lw_all := lw_g (lw_at lw_m5 165 rfl) rfl
theorem q1211 : (Jvm.Cond.code ({ cls := "CrateDeck", name := "isIn", desc := "(II)Z" } : Jvm.MethodName) prog_1_method_57_code (4 : Nat) (Option.some Jvm.ClassFile.FieldType.boolean)) ∈ lw_all := lw_g (lw_at lw_m5 166 rfl) rfl
theorem q1213 : (Jvm.Cond.methodLink "CrateDeck" (397 : Nat) ({ cls := "CrateDeck$Process", name := "<init>", desc := "(III)V" } : Jvm.MethodName)) ∈ lw_all := lw_g (lw_at lw_m5 168 rfl) rfl
theorem q1218 : (Jvm.Cond.fieldLinkNest "CrateDeck" (121 : Nat) "CrateDeck$Process" "number" "I" "CrateDeck") ∈ lw_tbl := lw_at lw_m5 173 rfl
theorem q1220 : (Jvm.Cond.fieldLinkNest "CrateDeck" (273 : Nat) "CrateDeck$Process" "container" "I" "CrateDeck") ∈ lw_tbl := lw_at lw_m5 175 rfl
theorem q1222 : (Jvm.Cond.fieldLinkNest "CrateDeck" (381 : Nat) "CrateDeck$Process" "group" "I" "CrateDeck") ∈ lw_tbl := lw_at lw_m5 177 rfl
theorem q1223 : (Jvm.Cond.fieldLinkNest "CrateDeck" (386 : Nat) "CrateDeck$Process" "memory" "I" "CrateDeck") ∈ lw_tbl := lw_at lw_m5 178 rfl
theorem q1237 : (Jvm.Cond.instanceMethod ({ cls := "CrateDeck", name := "give", desc := "(II)I" } : Jvm.MethodName)) ∈ lw_all := lw_g (lw_at lw_m5 192 rfl) rfl
theorem q1238 : (Jvm.Cond.selects "CrateDeck" ({ cls := "CrateDeck", name := "give", desc := "(II)I" } : Jvm.MethodName) ({ cls := "CrateDeck", name := "give", desc := "(II)I" } : Jvm.MethodName)) ∈ lw_all := lw_g (lw_at lw_m5 193 rfl) rfl
theorem q1239 : (Jvm.Cond.code ({ cls := "CrateDeck", name := "give", desc := "(II)I" } : Jvm.MethodName) prog_1_method_62_code (6 : Nat) (Option.some Jvm.ClassFile.FieldType.int)) ∈ lw_all := lw_g (lw_at lw_m5 194 rfl) rfl
theorem q1240 : (Jvm.Cond.methodLink "CrateDeck" (398 : Nat) ({ cls := "CrateDeck", name := "process", desc := "(I)LCrateDeck$Process;" } : Jvm.MethodName)) ∈ lw_all := lw_g (lw_at lw_m5 195 rfl) rfl
theorem q1241 : (Jvm.Cond.privateMethod ({ cls := "CrateDeck", name := "process", desc := "(I)LCrateDeck$Process;" } : Jvm.MethodName)) ∈ lw_tbl := lw_at lw_m5 196 rfl
theorem q1242 : (Jvm.Cond.instanceMethod ({ cls := "CrateDeck", name := "process", desc := "(I)LCrateDeck$Process;" } : Jvm.MethodName)) ∈ lw_all := lw_g (lw_at lw_m5 197 rfl) rfl
theorem q1243 : (Jvm.Cond.code ({ cls := "CrateDeck", name := "process", desc := "(I)LCrateDeck$Process;" } : Jvm.MethodName) prog_1_method_10_code (3 : Nat) (Option.some (Jvm.ClassFile.FieldType.object "CrateDeck$Process"))) ∈ lw_all := lw_g (lw_at lw_m5 198 rfl) rfl
theorem q1244 : (Jvm.Cond.methodLink "CrateDeck" (402 : Nat) ({ cls := "CrateDeck", name := "memoryIn", desc := "(I)I" } : Jvm.MethodName)) ∈ lw_all := lw_g (lw_at lw_m5 199 rfl) rfl
theorem q1245 : (Jvm.Cond.privateMethod ({ cls := "CrateDeck", name := "memoryIn", desc := "(I)I" } : Jvm.MethodName)) ∈ lw_tbl := lw_at lw_m5 200 rfl
theorem q1246 : (Jvm.Cond.instanceMethod ({ cls := "CrateDeck", name := "memoryIn", desc := "(I)I" } : Jvm.MethodName)) ∈ lw_all := lw_g (lw_at lw_m5 201 rfl) rfl
theorem q1247 : (Jvm.Cond.code ({ cls := "CrateDeck", name := "memoryIn", desc := "(I)I" } : Jvm.MethodName) prog_1_method_59_code (4 : Nat) (Option.some Jvm.ClassFile.FieldType.int)) ∈ lw_all := lw_g (lw_at lw_m5 202 rfl) rfl
theorem q1248 : (Jvm.Cond.methodLink "CrateDeck" (406 : Nat) ({ cls := "CrateDeck", name := "greatest", desc := "(I)LCrateDeck$Process;" } : Jvm.MethodName)) ∈ lw_all := lw_g (lw_at lw_m5 203 rfl) rfl
theorem q1249 : (Jvm.Cond.privateMethod ({ cls := "CrateDeck", name := "greatest", desc := "(I)LCrateDeck$Process;" } : Jvm.MethodName)) ∈ lw_tbl := lw_at lw_m5 204 rfl
theorem q1250 : (Jvm.Cond.instanceMethod ({ cls := "CrateDeck", name := "greatest", desc := "(I)LCrateDeck$Process;" } : Jvm.MethodName)) ∈ lw_all := lw_g (lw_at lw_m5 205 rfl) rfl
theorem q1251 : (Jvm.Cond.code ({ cls := "CrateDeck", name := "greatest", desc := "(I)LCrateDeck$Process;" } : Jvm.MethodName) prog_1_method_61_code (5 : Nat) (Option.some (Jvm.ClassFile.FieldType.object "CrateDeck$Process"))) ∈ lw_all := lw_g (lw_at lw_m5 206 rfl) rfl
theorem q1256 : (Jvm.Cond.instanceMethod ({ cls := "CrateDeck", name := "process", desc := "(II)I" } : Jvm.MethodName)) ∈ lw_all := lw_g (lw_at lw_m5 211 rfl) rfl
theorem q1257 : (Jvm.Cond.selects "CrateDeck" ({ cls := "CrateDeck", name := "process", desc := "(II)I" } : Jvm.MethodName) ({ cls := "CrateDeck", name := "process", desc := "(II)I" } : Jvm.MethodName)) ∈ lw_all := lw_g (lw_at lw_m5 212 rfl) rfl
theorem q1258 : (Jvm.Cond.code ({ cls := "CrateDeck", name := "process", desc := "(II)I" } : Jvm.MethodName) prog_1_method_66_code (4 : Nat) (Option.some Jvm.ClassFile.FieldType.int)) ∈ lw_all := lw_g (lw_at lw_m5 213 rfl) rfl
theorem q1259 : (Jvm.Cond.methodLink "CrateDeck" (418 : Nat) ({ cls := "CrateDeck", name := "timeOf", desc := "(I)I" } : Jvm.MethodName)) ∈ lw_all := lw_g (lw_at lw_m5 214 rfl) rfl
theorem q1260 : (Jvm.Cond.privateMethod ({ cls := "CrateDeck", name := "timeOf", desc := "(I)I" } : Jvm.MethodName)) ∈ lw_tbl := lw_at lw_m5 215 rfl
theorem q1261 : (Jvm.Cond.instanceMethod ({ cls := "CrateDeck", name := "timeOf", desc := "(I)I" } : Jvm.MethodName)) ∈ lw_all := lw_g (lw_at lw_m5 216 rfl) rfl
theorem q1262 : (Jvm.Cond.code ({ cls := "CrateDeck", name := "timeOf", desc := "(I)I" } : Jvm.MethodName) prog_1_method_65_code (7 : Nat) (Option.some Jvm.ClassFile.FieldType.int)) ∈ lw_all := lw_g (lw_at lw_m5 217 rfl) rfl
theorem q1263 : (Jvm.Cond.methodLink "CrateDeck" (415 : Nat) ({ cls := "CrateDeck", name := "sharesIn", desc := "(I)I" } : Jvm.MethodName)) ∈ lw_all := lw_g (lw_at lw_m5 218 rfl) rfl
theorem q1264 : (Jvm.Cond.privateMethod ({ cls := "CrateDeck", name := "sharesIn", desc := "(I)I" } : Jvm.MethodName)) ∈ lw_tbl := lw_at lw_m5 219 rfl
theorem q1265 : (Jvm.Cond.instanceMethod ({ cls := "CrateDeck", name := "sharesIn", desc := "(I)I" } : Jvm.MethodName)) ∈ lw_all := lw_g (lw_at lw_m5 220 rfl) rfl
theorem q1266 : (Jvm.Cond.code ({ cls := "CrateDeck", name := "sharesIn", desc := "(I)I" } : Jvm.MethodName) prog_1_method_64_code (4 : Nat) (Option.some Jvm.ClassFile.FieldType.int)) ∈ lw_all := lw_g (lw_at lw_m5 221 rfl) rfl
theorem q1267 : (Jvm.Cond.methodLink "CrateDeck" (409 : Nat) ({ cls := "CrateDeck", name := "ownProcesses", desc := "(I)I" } : Jvm.MethodName)) ∈ lw_all := lw_g (lw_at lw_m5 222 rfl) rfl
theorem q1268 : (Jvm.Cond.privateMethod ({ cls := "CrateDeck", name := "ownProcesses", desc := "(I)I" } : Jvm.MethodName)) ∈ lw_tbl := lw_at lw_m5 223 rfl
theorem q1269 : (Jvm.Cond.instanceMethod ({ cls := "CrateDeck", name := "ownProcesses", desc := "(I)I" } : Jvm.MethodName)) ∈ lw_all := lw_g (lw_at lw_m5 224 rfl) rfl
theorem q1270 : (Jvm.Cond.code ({ cls := "CrateDeck", name := "ownProcesses", desc := "(I)I" } : Jvm.MethodName) prog_1_method_63_code (4 : Nat) (Option.some Jvm.ClassFile.FieldType.int)) ∈ lw_all := lw_g (lw_at lw_m5 225 rfl) rfl
theorem q1275 : (Jvm.Cond.instanceMethod ({ cls := "CrateDeck", name := "groupHas", desc := "(II)I" } : Jvm.MethodName)) ∈ lw_all := lw_g (lw_at lw_m5 230 rfl) rfl
theorem q1276 : (Jvm.Cond.selects "CrateDeck" ({ cls := "CrateDeck", name := "groupHas", desc := "(II)I" } : Jvm.MethodName) ({ cls := "CrateDeck", name := "groupHas", desc := "(II)I" } : Jvm.MethodName)) ∈ lw_all := lw_g (lw_at lw_m5 231 rfl) rfl
theorem q1277 : (Jvm.Cond.code ({ cls := "CrateDeck", name := "groupHas", desc := "(II)I" } : Jvm.MethodName) prog_1_method_67_code (3 : Nat) (Option.some Jvm.ClassFile.FieldType.int)) ∈ lw_all := lw_g (lw_at lw_m5 232 rfl) rfl
theorem q1282 : (Jvm.Cond.instanceMethod ({ cls := "CrateDeck", name := "filter", desc := "(III)I" } : Jvm.MethodName)) ∈ lw_all := lw_g (lw_at lw_m5 237 rfl) rfl
theorem q1283 : (Jvm.Cond.selects "CrateDeck" ({ cls := "CrateDeck", name := "filter", desc := "(III)I" } : Jvm.MethodName) ({ cls := "CrateDeck", name := "filter", desc := "(III)I" } : Jvm.MethodName)) ∈ lw_all := lw_g (lw_at lw_m5 238 rfl) rfl
theorem q1284 : (Jvm.Cond.code ({ cls := "CrateDeck", name := "filter", desc := "(III)I" } : Jvm.MethodName) prog_1_method_68_code (5 : Nat) (Option.some Jvm.ClassFile.FieldType.int)) ∈ lw_all := lw_g (lw_at lw_m5 239 rfl) rfl
theorem q1285 : (Jvm.Cond.constant "CrateDeck" (421 : Nat) (65535 : Int32)) ∈ lw_all := lw_g (lw_at lw_m6 0 rfl) rfl
theorem q1286 : (Jvm.Cond.classLink "CrateDeck" (425 : Nat) "CrateDeck$Filter") ∈ lw_all := lw_g (lw_at lw_m6 1 rfl) rfl
theorem q1288 : (Jvm.Cond.methodLinkNest "CrateDeck" (427 : Nat) ({ cls := "CrateDeck$Filter", name := "<init>", desc := "(II)V" } : Jvm.MethodName) "CrateDeck") ∈ lw_tbl := lw_at lw_m6 3 rfl
theorem q1303 : (Jvm.Cond.instanceMethod ({ cls := "CrateDeck", name := "call", desc := "(II)I" } : Jvm.MethodName)) ∈ lw_all := lw_g (lw_at lw_m6 18 rfl) rfl
theorem q1304 : (Jvm.Cond.selects "CrateDeck" ({ cls := "CrateDeck", name := "call", desc := "(II)I" } : Jvm.MethodName) ({ cls := "CrateDeck", name := "call", desc := "(II)I" } : Jvm.MethodName)) ∈ lw_all := lw_g (lw_at lw_m6 19 rfl) rfl
theorem q1305 : (Jvm.Cond.code ({ cls := "CrateDeck", name := "call", desc := "(II)I" } : Jvm.MethodName) prog_1_method_69_code (9 : Nat) (Option.some Jvm.ClassFile.FieldType.int)) ∈ lw_all := lw_g (lw_at lw_m6 20 rfl) rfl
theorem q1306 : (Jvm.Cond.methodLink "CrateDeck" (428 : Nat) ({ cls := "CrateDeck$Filter", name := "denied", desc := "()I" } : Jvm.MethodName)) ∈ lw_all := lw_g (lw_at lw_m6 21 rfl) rfl
theorem q1310 : (Jvm.Cond.methodLink "CrateDeck" (431 : Nat) ({ cls := "CrateDeck$Filter", name := "kills", desc := "()I" } : Jvm.MethodName)) ∈ lw_all := lw_g (lw_at lw_m6 25 rfl) rfl
theorem q1318 : (Jvm.Cond.instanceMethod ({ cls := "CrateDeck", name := "connect", desc := "(II)I" } : Jvm.MethodName)) ∈ lw_all := lw_g (lw_at lw_m6 33 rfl) rfl
theorem q1319 : (Jvm.Cond.selects "CrateDeck" ({ cls := "CrateDeck", name := "connect", desc := "(II)I" } : Jvm.MethodName) ({ cls := "CrateDeck", name := "connect", desc := "(II)I" } : Jvm.MethodName)) ∈ lw_all := lw_g (lw_at lw_m6 34 rfl) rfl
theorem q1320 : (Jvm.Cond.code ({ cls := "CrateDeck", name := "connect", desc := "(II)I" } : Jvm.MethodName) prog_1_method_71_code (5 : Nat) (Option.some Jvm.ClassFile.FieldType.int)) ∈ lw_all := lw_g (lw_at lw_m6 35 rfl) rfl
theorem q1321 : (Jvm.Cond.methodLink "CrateDeck" (437 : Nat) ({ cls := "CrateDeck", name := "isTaken", desc := "(II)Z" } : Jvm.MethodName)) ∈ lw_all := lw_g (lw_at lw_m6 36 rfl) rfl
theorem q1322 : (Jvm.Cond.privateMethod ({ cls := "CrateDeck", name := "isTaken", desc := "(II)Z" } : Jvm.MethodName)) ∈ lw_tbl := lw_at lw_m6 37 rfl
theorem q1323 : (Jvm.Cond.instanceMethod ({ cls := "CrateDeck", name := "isTaken", desc := "(II)Z" } : Jvm.MethodName)) ∈ lw_all := lw_g (lw_at lw_m6 38 rfl) rfl
theorem q1324 : (Jvm.Cond.code ({ cls := "CrateDeck", name := "isTaken", desc := "(II)Z" } : Jvm.MethodName) prog_1_method_70_code (5 : Nat) (Option.some Jvm.ClassFile.FieldType.boolean)) ∈ lw_all := lw_g (lw_at lw_m6 39 rfl) rfl
theorem q1329 : (Jvm.Cond.instanceMethod ({ cls := "CrateDeck", name := "disconnect", desc := "(II)I" } : Jvm.MethodName)) ∈ lw_all := lw_g (lw_at lw_m6 44 rfl) rfl
theorem q1330 : (Jvm.Cond.selects "CrateDeck" ({ cls := "CrateDeck", name := "disconnect", desc := "(II)I" } : Jvm.MethodName) ({ cls := "CrateDeck", name := "disconnect", desc := "(II)I" } : Jvm.MethodName)) ∈ lw_all := lw_g (lw_at lw_m6 45 rfl) rfl
theorem q1331 : (Jvm.Cond.code ({ cls := "CrateDeck", name := "disconnect", desc := "(II)I" } : Jvm.MethodName) prog_1_method_72_code (5 : Nat) (Option.some Jvm.ClassFile.FieldType.int)) ∈ lw_all := lw_g (lw_at lw_m6 46 rfl) rfl
theorem q1336 : (Jvm.Cond.instanceMethod ({ cls := "CrateDeck", name := "find", desc := "(II)I" } : Jvm.MethodName)) ∈ lw_all := lw_g (lw_at lw_m6 51 rfl) rfl
theorem q1337 : (Jvm.Cond.selects "CrateDeck" ({ cls := "CrateDeck", name := "find", desc := "(II)I" } : Jvm.MethodName) ({ cls := "CrateDeck", name := "find", desc := "(II)I" } : Jvm.MethodName)) ∈ lw_all := lw_g (lw_at lw_m6 52 rfl) rfl
theorem q1338 : (Jvm.Cond.code ({ cls := "CrateDeck", name := "find", desc := "(II)I" } : Jvm.MethodName) prog_1_method_73_code (7 : Nat) (Option.some Jvm.ClassFile.FieldType.int)) ∈ lw_all := lw_g (lw_at lw_m6 53 rfl) rfl
theorem q1343 : (Jvm.Cond.instanceMethod ({ cls := "CrateDeck", name := "forward", desc := "(III)V" } : Jvm.MethodName)) ∈ lw_all := lw_g (lw_at lw_m6 58 rfl) rfl
theorem q1344 : (Jvm.Cond.selects "CrateDeck" ({ cls := "CrateDeck", name := "forward", desc := "(III)V" } : Jvm.MethodName) ({ cls := "CrateDeck", name := "forward", desc := "(III)V" } : Jvm.MethodName)) ∈ lw_all := lw_g (lw_at lw_m6 59 rfl) rfl
theorem q1345 : (Jvm.Cond.code ({ cls := "CrateDeck", name := "forward", desc := "(III)V" } : Jvm.MethodName) prog_1_method_74_code (5 : Nat) (Option.none : Option Jvm.ClassFile.FieldType)) ∈ lw_all := lw_g (lw_at lw_m6 60 rfl) rfl
theorem q1346 : (Jvm.Cond.methodLink "CrateDeck" (440 : Nat) ({ cls := "CrateDeck$Container", name := "isConnected", desc := "()Z" } : Jvm.MethodName)) ∈ lw_all := lw_g (lw_at lw_m6 61 rfl) rfl
theorem q1351 : (Jvm.Cond.methodLink "CrateDeck" (444 : Nat) ({ cls := "CrateDeck$Forward", name := "<init>", desc := "(II)V" } : Jvm.MethodName)) ∈ lw_all := lw_g (lw_at lw_m6 66 rfl) rfl
theorem q1356 : (Jvm.Cond.fieldLinkNest "CrateDeck" (278 : Nat) "CrateDeck$Forward" "container" "I" "CrateDeck") ∈ lw_tbl := lw_at lw_m6 71 rfl
theorem q1358 : (Jvm.Cond.fieldLinkNest "CrateDeck" (445 : Nat) "CrateDeck$Forward" "to" "I" "CrateDeck") ∈ lw_tbl := lw_at lw_m6 73 rfl
theorem q1368 : (Jvm.Cond.instanceMethod ({ cls := "CrateDeck", name := "leads", desc := "(I)I" } : Jvm.MethodName)) ∈ lw_all := lw_g (lw_at lw_m6 83 rfl) rfl
theorem q1369 : (Jvm.Cond.selects "CrateDeck" ({ cls := "CrateDeck", name := "leads", desc := "(I)I" } : Jvm.MethodName) ({ cls := "CrateDeck", name := "leads", desc := "(I)I" } : Jvm.MethodName)) ∈ lw_all := lw_g (lw_at lw_m6 84 rfl) rfl
theorem q1370 : (Jvm.Cond.code ({ cls := "CrateDeck", name := "leads", desc := "(I)I" } : Jvm.MethodName) prog_1_method_75_code (3 : Nat) (Option.some Jvm.ClassFile.FieldType.int)) ∈ lw_all := lw_g (lw_at lw_m6 85 rfl) rfl
theorem q1375 : (Jvm.Cond.instanceMethod ({ cls := "CrateDeck", name := "build", desc := "(IIII)I" } : Jvm.MethodName)) ∈ lw_all := lw_g (lw_at lw_m6 90 rfl) rfl
theorem q1376 : (Jvm.Cond.selects "CrateDeck" ({ cls := "CrateDeck", name := "build", desc := "(IIII)I" } : Jvm.MethodName) ({ cls := "CrateDeck", name := "build", desc := "(IIII)I" } : Jvm.MethodName)) ∈ lw_all := lw_g (lw_at lw_m6 91 rfl) rfl
theorem q1377 : (Jvm.Cond.code ({ cls := "CrateDeck", name := "build", desc := "(IIII)I" } : Jvm.MethodName) prog_1_method_76_code (9 : Nat) (Option.some Jvm.ClassFile.FieldType.int)) ∈ lw_all := lw_g (lw_at lw_m6 92 rfl) rfl
theorem q1378 : (Jvm.Cond.classLink "CrateDeck" (448 : Nat) "CrateDeck$Step") ∈ lw_all := lw_g (lw_at lw_m6 93 rfl) rfl
theorem q1379 : (Jvm.Cond.methodLink "CrateDeck" (450 : Nat) ({ cls := "CrateDeck$Step", name := "image", desc := "()I" } : Jvm.MethodName)) ∈ lw_all := lw_g (lw_at lw_m6 94 rfl) rfl
theorem q1383 : (Jvm.Cond.methodLink "CrateDeck" (452 : Nat) ({ cls := "CrateDeck$Step", name := "number", desc := "()I" } : Jvm.MethodName)) ∈ lw_all := lw_g (lw_at lw_m6 98 rfl) rfl
theorem q1387 : (Jvm.Cond.methodLink "CrateDeck" (454 : Nat) ({ cls := "CrateDeck$Step", name := "reads", desc := "()I" } : Jvm.MethodName)) ∈ lw_all := lw_g (lw_at lw_m6 102 rfl) rfl
theorem q1391 : (Jvm.Cond.methodLink "CrateDeck" (457 : Nat) ({ cls := "CrateDeck$Step", name := "writes", desc := "()I" } : Jvm.MethodName)) ∈ lw_all := lw_g (lw_at lw_m6 106 rfl) rfl
theorem q1395 : (Jvm.Cond.methodLink "CrateDeck" (460 : Nat) ({ cls := "CrateDeck$Step", name := "content", desc := "()I" } : Jvm.MethodName)) ∈ lw_all := lw_g (lw_at lw_m6 110 rfl) rfl
theorem q1399 : (Jvm.Cond.methodLink "CrateDeck" (464 : Nat) ({ cls := "CrateDeck$Step", name := "made", desc := "()I" } : Jvm.MethodName)) ∈ lw_all := lw_g (lw_at lw_m6 114 rfl) rfl
theorem q1404 : (Jvm.Cond.methodLinkNest "CrateDeck" (467 : Nat) ({ cls := "CrateDeck$Step", name := "<init>", desc := "(IIIIII)V" } : Jvm.MethodName) "CrateDeck") ∈ lw_tbl := lw_at lw_m6 119 rfl
theorem q1431 : (Jvm.Cond.instanceMethod ({ cls := "CrateDeck", name := "push", desc := "(I)I" } : Jvm.MethodName)) ∈ lw_all := lw_g (lw_at lw_m6 146 rfl) rfl
theorem q1432 : (Jvm.Cond.selects "CrateDeck" ({ cls := "CrateDeck", name := "push", desc := "(I)I" } : Jvm.MethodName) ({ cls := "CrateDeck", name := "push", desc := "(I)I" } : Jvm.MethodName)) ∈ lw_all := lw_g (lw_at lw_m6 147 rfl) rfl
theorem q1433 : (Jvm.Cond.code ({ cls := "CrateDeck", name := "push", desc := "(I)I" } : Jvm.MethodName) prog_1_method_78_code (4 : Nat) (Option.some Jvm.ClassFile.FieldType.int)) ∈ lw_all := lw_g (lw_at lw_m6 148 rfl) rfl
theorem q1438 : (Jvm.Cond.instanceMethod ({ cls := "CrateDeck", name := "pull", desc := "(II)I" } : Jvm.MethodName)) ∈ lw_all := lw_g (lw_at lw_m6 153 rfl) rfl
theorem q1439 : (Jvm.Cond.selects "CrateDeck" ({ cls := "CrateDeck", name := "pull", desc := "(II)I" } : Jvm.MethodName) ({ cls := "CrateDeck", name := "pull", desc := "(II)I" } : Jvm.MethodName)) ∈ lw_all := lw_g (lw_at lw_m6 154 rfl) rfl
theorem q1440 : (Jvm.Cond.code ({ cls := "CrateDeck", name := "pull", desc := "(II)I" } : Jvm.MethodName) prog_1_method_79_code (7 : Nat) (Option.some Jvm.ClassFile.FieldType.int)) ∈ lw_all := lw_g (lw_at lw_m6 155 rfl) rfl
theorem q1445 : (Jvm.Cond.instanceMethod ({ cls := "CrateDeck", name := "forget", desc := "(I)Z" } : Jvm.MethodName)) ∈ lw_all := lw_g (lw_at lw_m6 160 rfl) rfl
theorem q1446 : (Jvm.Cond.selects "CrateDeck" ({ cls := "CrateDeck", name := "forget", desc := "(I)Z" } : Jvm.MethodName) ({ cls := "CrateDeck", name := "forget", desc := "(I)Z" } : Jvm.MethodName)) ∈ lw_all := lw_g (lw_at lw_m6 161 rfl) rfl
theorem q1447 : (Jvm.Cond.code ({ cls := "CrateDeck", name := "forget", desc := "(I)Z" } : Jvm.MethodName) prog_1_method_80_code (3 : Nat) (Option.some Jvm.ClassFile.FieldType.boolean)) ∈ lw_all := lw_g (lw_at lw_m6 162 rfl) rfl
theorem q1452 : (Jvm.Cond.instanceMethod ({ cls := "CrateDeck", name := "service", desc := "(I)I" } : Jvm.MethodName)) ∈ lw_all := lw_g (lw_at lw_m6 167 rfl) rfl
theorem q1453 : (Jvm.Cond.selects "CrateDeck" ({ cls := "CrateDeck", name := "service", desc := "(I)I" } : Jvm.MethodName) ({ cls := "CrateDeck", name := "service", desc := "(I)I" } : Jvm.MethodName)) ∈ lw_all := lw_g (lw_at lw_m6 168 rfl) rfl
theorem q1454 : (Jvm.Cond.code ({ cls := "CrateDeck", name := "service", desc := "(I)I" } : Jvm.MethodName) prog_1_method_84_code (2 : Nat) (Option.some Jvm.ClassFile.FieldType.int)) ∈ lw_all := lw_g (lw_at lw_m6 169 rfl) rfl
theorem q1456 : (Jvm.Cond.methodLink "CrateDeck" (482 : Nat) ({ cls := "CrateDeck$Service", name := "<init>", desc := "(I)V" } : Jvm.MethodName)) ∈ lw_all := lw_g (lw_at lw_m6 171 rfl) rfl
theorem q1461 : (Jvm.Cond.fieldLinkNest "CrateDeck" (509 : Nat) "CrateDeck$Service" "name" "I" "CrateDeck") ∈ lw_tbl := lw_at lw_m6 176 rfl
theorem q1462 : (Jvm.Cond.fieldLinkNest "CrateDeck" (481 : Nat) "CrateDeck$Service" "image" "I" "CrateDeck") ∈ lw_tbl := lw_at lw_m6 177 rfl
theorem q1464 : (Jvm.Cond.fieldLinkNest "CrateDeck" (486 : Nat) "CrateDeck$Service" "before" "I" "CrateDeck") ∈ lw_tbl := lw_at lw_m6 179 rfl
theorem q1465 : (Jvm.Cond.fieldLinkNest "CrateDeck" (483 : Nat) "CrateDeck$Service" "wished" "I" "CrateDeck") ∈ lw_tbl := lw_at lw_m6 180 rfl
theorem q1466 : (Jvm.Cond.fieldLinkNest "CrateDeck" (489 : Nat) "CrateDeck$Service" "failures" "I" "CrateDeck") ∈ lw_tbl := lw_at lw_m6 181 rfl
theorem q1482 : (Jvm.Cond.instanceMethod ({ cls := "CrateDeck", name := "wish", desc := "(III)V" } : Jvm.MethodName)) ∈ lw_all := lw_g (lw_at lw_m6 197 rfl) rfl
theorem q1483 : (Jvm.Cond.selects "CrateDeck" ({ cls := "CrateDeck", name := "wish", desc := "(III)V" } : Jvm.MethodName) ({ cls := "CrateDeck", name := "wish", desc := "(III)V" } : Jvm.MethodName)) ∈ lw_all := lw_g (lw_at lw_m6 198 rfl) rfl
theorem q1484 : (Jvm.Cond.code ({ cls := "CrateDeck", name := "wish", desc := "(III)V" } : Jvm.MethodName) prog_1_method_85_code (5 : Nat) (Option.none : Option Jvm.ClassFile.FieldType)) ∈ lw_all := lw_g (lw_at lw_m6 199 rfl) rfl
theorem q1489 : (Jvm.Cond.instanceMethod ({ cls := "CrateDeck", name := "serviceHas", desc := "(II)I" } : Jvm.MethodName)) ∈ lw_all := lw_g (lw_at lw_m6 204 rfl) rfl
theorem q1490 : (Jvm.Cond.selects "CrateDeck" ({ cls := "CrateDeck", name := "serviceHas", desc := "(II)I" } : Jvm.MethodName) ({ cls := "CrateDeck", name := "serviceHas", desc := "(II)I" } : Jvm.MethodName)) ∈ lw_all := lw_g (lw_at lw_m6 205 rfl) rfl
theorem q1491 : (Jvm.Cond.code ({ cls := "CrateDeck", name := "serviceHas", desc := "(II)I" } : Jvm.MethodName) prog_1_method_87_code (4 : Nat) (Option.some Jvm.ClassFile.FieldType.int)) ∈ lw_all := lw_g (lw_at lw_m6 206 rfl) rfl
theorem q1492 : (Jvm.Cond.methodLink "CrateDeck" (495 : Nat) ({ cls := "CrateDeck", name := "manyOf", desc := "(II)I" } : Jvm.MethodName)) ∈ lw_all := lw_g (lw_at lw_m6 207 rfl) rfl
theorem q1493 : (Jvm.Cond.privateMethod ({ cls := "CrateDeck", name := "manyOf", desc := "(II)I" } : Jvm.MethodName)) ∈ lw_tbl := lw_at lw_m6 208 rfl
theorem q1494 : (Jvm.Cond.instanceMethod ({ cls := "CrateDeck", name := "manyOf", desc := "(II)I" } : Jvm.MethodName)) ∈ lw_all := lw_g (lw_at lw_m6 209 rfl) rfl
theorem q1495 : (Jvm.Cond.code ({ cls := "CrateDeck", name := "manyOf", desc := "(II)I" } : Jvm.MethodName) prog_1_method_86_code (6 : Nat) (Option.some Jvm.ClassFile.FieldType.int)) ∈ lw_all := lw_g (lw_at lw_m6 210 rfl) rfl
theorem q1500 : (Jvm.Cond.instanceMethod ({ cls := "CrateDeck", name := "setHealth", desc := "(IZ)V" } : Jvm.MethodName)) ∈ lw_all := lw_g (lw_at lw_m6 215 rfl) rfl
theorem q1501 : (Jvm.Cond.selects "CrateDeck" ({ cls := "CrateDeck", name := "setHealth", desc := "(IZ)V" } : Jvm.MethodName) ({ cls := "CrateDeck", name := "setHealth", desc := "(IZ)V" } : Jvm.MethodName)) ∈ lw_all := lw_g (lw_at lw_m6 216 rfl) rfl
theorem q1502 : (Jvm.Cond.code ({ cls := "CrateDeck", name := "setHealth", desc := "(IZ)V" } : Jvm.MethodName) prog_1_method_88_code (3 : Nat) (Option.none : Option Jvm.ClassFile.FieldType)) ∈ lw_all := lw_g (lw_at lw_m6 217 rfl) rfl
theorem q1507 : (Jvm.Cond.instanceMethod ({ cls := "CrateDeck", name := "pass", desc := "(I)I" } : Jvm.MethodName)) ∈ lw_all := lw_g (lw_at lw_m6 222 rfl) rfl
theorem q1508 : (Jvm.Cond.selects "CrateDeck" ({ cls := "CrateDeck", name := "pass", desc := "(I)I" } : Jvm.MethodName) ({ cls := "CrateDeck", name := "pass", desc := "(I)I" } : Jvm.MethodName)) ∈ lw_all := lw_g (lw_at lw_m6 223 rfl) rfl
theorem q1509 : (Jvm.Cond.code ({ cls := "CrateDeck", name := "pass", desc := "(I)I" } : Jvm.MethodName) prog_1_method_94_code (4 : Nat) (Option.some Jvm.ClassFile.FieldType.int)) ∈ lw_all := lw_g (lw_at lw_m6 224 rfl) rfl
theorem q1510 : (Jvm.Cond.methodLink "CrateDeck" (513 : Nat) ({ cls := "CrateDeck", name := "goOn", desc := "(I)V" } : Jvm.MethodName)) ∈ lw_all := lw_g (lw_at lw_m6 225 rfl) rfl
theorem q1511 : (Jvm.Cond.privateMethod ({ cls := "CrateDeck", name := "goOn", desc := "(I)V" } : Jvm.MethodName)) ∈ lw_tbl := lw_at lw_m6 226 rfl
theorem q1512 : (Jvm.Cond.instanceMethod ({ cls := "CrateDeck", name := "goOn", desc := "(I)V" } : Jvm.MethodName)) ∈ lw_all := lw_g (lw_at lw_m6 227 rfl) rfl
theorem q1513 : (Jvm.Cond.code ({ cls := "CrateDeck", name := "goOn", desc := "(I)V" } : Jvm.MethodName) prog_1_method_93_code (7 : Nat) (Option.none : Option Jvm.ClassFile.FieldType)) ∈ lw_all := lw_g (lw_at lw_m6 228 rfl) rfl
theorem q1514 : (Jvm.Cond.methodLink "CrateDeck" (498 : Nat) ({ cls := "CrateDeck", name := "firstUnhealthy", desc := "(I)LCrateDeck$Container;" } : Jvm.MethodName)) ∈ lw_all := lw_g (lw_at lw_m6 229 rfl) rfl
theorem q1515 : (Jvm.Cond.privateMethod ({ cls := "CrateDeck", name := "firstUnhealthy", desc := "(I)LCrateDeck$Container;" } : Jvm.MethodName)) ∈ lw_tbl := lw_at lw_m6 230 rfl
theorem q1516 : (Jvm.Cond.instanceMethod ({ cls := "CrateDeck", name := "firstUnhealthy", desc := "(I)LCrateDeck$Container;" } : Jvm.MethodName)) ∈ lw_all := lw_g (lw_at lw_m6 231 rfl) rfl
theorem q1517 : (Jvm.Cond.code ({ cls := "CrateDeck", name := "firstUnhealthy", desc := "(I)LCrateDeck$Container;" } : Jvm.MethodName) prog_1_method_89_code (3 : Nat) (Option.some (Jvm.ClassFile.FieldType.object "CrateDeck$Container"))) ∈ lw_all := lw_g (lw_at lw_m6 232 rfl) rfl
theorem q1518 : (Jvm.Cond.methodLink "CrateDeck" (501 : Nat) ({ cls := "CrateDeck", name := "other", desc := "(IZ)LCrateDeck$Container;" } : Jvm.MethodName)) ∈ lw_all := lw_g (lw_at lw_m6 233 rfl) rfl
theorem q1519 : (Jvm.Cond.privateMethod ({ cls := "CrateDeck", name := "other", desc := "(IZ)LCrateDeck$Container;" } : Jvm.MethodName)) ∈ lw_tbl := lw_at lw_m6 234 rfl
theorem q1520 : (Jvm.Cond.instanceMethod ({ cls := "CrateDeck", name := "other", desc := "(IZ)LCrateDeck$Container;" } : Jvm.MethodName)) ∈ lw_all := lw_g (lw_at lw_m6 235 rfl) rfl
theorem q1521 : (Jvm.Cond.code ({ cls := "CrateDeck", name := "other", desc := "(IZ)LCrateDeck$Container;" } : Jvm.MethodName) prog_1_method_90_code (7 : Nat) (Option.some (Jvm.ClassFile.FieldType.object "CrateDeck$Container"))) ∈ lw_all := lw_g (lw_at lw_m6 236 rfl) rfl
theorem q1522 : (Jvm.Cond.methodLink "CrateDeck" (505 : Nat) ({ cls := "CrateDeck", name := "fail", desc := "(LCrateDeck$Service;)V" } : Jvm.MethodName)) ∈ lw_all := lw_g (lw_at lw_m6 237 rfl) rfl
theorem q1523 : (Jvm.Cond.static ({ cls := "CrateDeck", name := "fail", desc := "(LCrateDeck$Service;)V" } : Jvm.MethodName)) ∈ lw_all := lw_g (lw_at lw_m6 238 rfl) rfl
theorem q1524 : (Jvm.Cond.code ({ cls := "CrateDeck", name := "fail", desc := "(LCrateDeck$Service;)V" } : Jvm.MethodName) prog_1_method_92_code (1 : Nat) (Option.none : Option Jvm.ClassFile.FieldType)) ∈ lw_all := lw_g (lw_at lw_m6 239 rfl) rfl
theorem q1525 : (Jvm.Cond.methodLink "CrateDeck" (510 : Nat) ({ cls := "CrateDeck", name := "last", desc := "(I)LCrateDeck$Container;" } : Jvm.MethodName)) ∈ lw_all := lw_g (lw_at lw_m7 0 rfl) rfl
theorem q1526 : (Jvm.Cond.privateMethod ({ cls := "CrateDeck", name := "last", desc := "(I)LCrateDeck$Container;" } : Jvm.MethodName)) ∈ lw_tbl := lw_at lw_m7 1 rfl
theorem q1527 : (Jvm.Cond.instanceMethod ({ cls := "CrateDeck", name := "last", desc := "(I)LCrateDeck$Container;" } : Jvm.MethodName)) ∈ lw_all := lw_g (lw_at lw_m7 2 rfl) rfl
theorem q1528 : (Jvm.Cond.code ({ cls := "CrateDeck", name := "last", desc := "(I)LCrateDeck$Container;" } : Jvm.MethodName) prog_1_method_91_code (4 : Nat) (Option.some (Jvm.ClassFile.FieldType.object "CrateDeck$Container"))) ∈ lw_all := lw_g (lw_at lw_m7 3 rfl) rfl
theorem q2130 : (Jvm.Cond.castable "CrateDeck" "java/lang/Object") ∈ lw_tbl := lw_at lw_m9 125 rfl
theorem in_X1 : ∀ w ∈ wsX10, w ∈ lw_all := lw_in wsX10 [337, 339, 341, 343, 345, 347, 349, 351, 353, 355, 357, 359, 361, 363, 365, 367, 369, 371, 373, 375, 377] (by decide +kernel) (by decide +kernel)

/-! CrateDeck$Layer -/
set_option maxRecDepth 100000
def RX2 : String := "CrateDeck$Layer"
def TX2 : u_T := fun k => match k with
  | _ => ("CrateDeck$Layer", "entries", "Ljava/util/List;", true)
def tyX2 : Nat → FieldType := fun k => match k with
  | _ => .object "java/util/List"
abbrev wsX20 : List Cond := u_ws RX2 TX2 1
theorem nmX2 : ∀ a, a < 1 → ∀ b, b < 1 → a ≠ b → (TX2 a).2.1 ≠ (TX2 b).2.1 := by decide +kernel
theorem tyX2_ok : ∀ k, k < 1 → parseFieldDescriptor (TX2 k).2.2.1 = some (tyX2 k) := by decide +kernel
abbrev cX2_init : ByteArray := prog_8_method_1_code
def yX2_init : MethodName := ⟨RX2, "<init>", "()V"⟩
def dkwX2_init_0 : List UInt8 := [42, 183, 0, 3, 42, 187, 0, 9, 89, 183, 0, 11, 181, 0, 12, 177]
abbrev dktX2_init_0 : List UInt8 := dkwX2_init_0 ++ []
theorem dksX2_init_0 : cX2_init.data.toList.drop 0 = dktX2_init_0 := by decide +kernel
theorem dX2_init_0 : decode cX2_init 0 = .ok (.aload_n 0, 1) := dk_42 (dk_at dksX2_init_0 0 rfl rfl)
theorem dX2_init_1 : decode cX2_init 1 = .ok (.invokespecial 3, 3) := dk_183 0 3 (dk_at dksX2_init_0 1 rfl rfl)
theorem dX2_init_4 : decode cX2_init 4 = .ok (.aload_n 0, 1) := dk_42 (dk_at dksX2_init_0 4 rfl rfl)
theorem dX2_init_5 : decode cX2_init 5 = .ok (.new 9, 3) := dk_187 0 9 (dk_at dksX2_init_0 5 rfl rfl)
theorem dX2_init_8 : decode cX2_init 8 = .ok (.dup, 1) := dk_89 (dk_at dksX2_init_0 8 rfl rfl)
theorem dX2_init_9 : decode cX2_init 9 = .ok (.invokespecial 11, 3) := dk_183 0 11 (dk_at dksX2_init_0 9 rfl rfl)
theorem dX2_init_12 : decode cX2_init 12 = .ok (.putfield 12, 3) := dk_181 0 12 (dk_at dksX2_init_0 12 rfl rfl)
theorem dX2_init_15 : decode cX2_init 15 = .ok (.return_, 1) := dk_177 (dk_at dksX2_init_0 15 rfl rfl)
abbrev cX2_at : ByteArray := prog_8_method_2_code
def yX2_at : MethodName := ⟨RX2, "at", "(I)LCrateDeck$Entry;"⟩
def dkwX2_at_2 : List UInt8 := [185, 0, 24, 2, 0, 192, 0, 28, 176, 132, 2, 1, 167, 255, 206, 1, 176]
abbrev dktX2_at_2 : List UInt8 := dkwX2_at_2 ++ []
def dkwX2_at_1 : List UInt8 := [185, 0, 24, 2, 0, 192, 0, 28, 182, 0, 30, 27, 160, 0, 17, 42, 180, 0, 12, 28]
abbrev dktX2_at_1 : List UInt8 := dkwX2_at_1 ++ dktX2_at_2
def dkwX2_at_0 : List UInt8 := [3, 61, 28, 42, 180, 0, 12, 185, 0, 18, 1, 0, 162, 0, 43, 42, 180, 0, 12, 28]
abbrev dktX2_at_0 : List UInt8 := dkwX2_at_0 ++ dktX2_at_1
theorem dksX2_at_0 : cX2_at.data.toList.drop 0 = dktX2_at_0 := by decide +kernel
theorem dksX2_at_1 : cX2_at.data.toList.drop 20 = dktX2_at_1 := dk_seg dksX2_at_0 20 rfl rfl
theorem dksX2_at_2 : cX2_at.data.toList.drop 40 = dktX2_at_2 := dk_seg dksX2_at_1 20 rfl rfl
theorem dX2_at_0 : decode cX2_at 0 = .ok (.iconst 0, 1) := dk_3 (dk_at dksX2_at_0 0 rfl rfl)
theorem dX2_at_1 : decode cX2_at 1 = .ok (.istore_n 2, 1) := dk_61 (dk_at dksX2_at_0 1 rfl rfl)
theorem dX2_at_2 : decode cX2_at 2 = .ok (.iload_n 2, 1) := dk_28 (dk_at dksX2_at_0 2 rfl rfl)
theorem dX2_at_3 : decode cX2_at 3 = .ok (.aload_n 0, 1) := dk_42 (dk_at dksX2_at_0 3 rfl rfl)
theorem dX2_at_4 : decode cX2_at 4 = .ok (.getfield 12, 3) := dk_180 0 12 (dk_at dksX2_at_0 4 rfl rfl)
theorem dX2_at_7 : decode cX2_at 7 = .ok (.invokeinterface 18 1, 5) := by decide +kernel
theorem dX2_at_12 : decode cX2_at 12 = .ok (.if_icmp .ge 43, 3) := dk_162 0 43 (dk_at dksX2_at_0 12 rfl rfl)
theorem dX2_at_15 : decode cX2_at 15 = .ok (.aload_n 0, 1) := dk_42 (dk_at dksX2_at_0 15 rfl rfl)
theorem dX2_at_16 : decode cX2_at 16 = .ok (.getfield 12, 3) := dk_180 0 12 (dk_at dksX2_at_0 16 rfl rfl)
theorem dX2_at_19 : decode cX2_at 19 = .ok (.iload_n 2, 1) := dk_28 (dk_at dksX2_at_0 19 rfl rfl)
theorem dX2_at_20 : decode cX2_at 20 = .ok (.invokeinterface 24 2, 5) := by decide +kernel
theorem dX2_at_25 : decode cX2_at 25 = .ok (.checkcast 28, 3) := dk_192 0 28 (dk_at dksX2_at_1 5 rfl rfl)
theorem dX2_at_28 : decode cX2_at 28 = .ok (.invokevirtual 30, 3) := dk_182 0 30 (dk_at dksX2_at_1 8 rfl rfl)
theorem dX2_at_31 : decode cX2_at 31 = .ok (.iload_n 1, 1) := dk_27 (dk_at dksX2_at_1 11 rfl rfl)
theorem dX2_at_32 : decode cX2_at 32 = .ok (.if_icmp .ne 17, 3) := dk_160 0 17 (dk_at dksX2_at_1 12 rfl rfl)
theorem dX2_at_35 : decode cX2_at 35 = .ok (.aload_n 0, 1) := dk_42 (dk_at dksX2_at_1 15 rfl rfl)
theorem dX2_at_36 : decode cX2_at 36 = .ok (.getfield 12, 3) := dk_180 0 12 (dk_at dksX2_at_1 16 rfl rfl)
theorem dX2_at_39 : decode cX2_at 39 = .ok (.iload_n 2, 1) := dk_28 (dk_at dksX2_at_1 19 rfl rfl)
theorem dX2_at_40 : decode cX2_at 40 = .ok (.invokeinterface 24 2, 5) := by decide +kernel
theorem dX2_at_45 : decode cX2_at 45 = .ok (.checkcast 28, 3) := dk_192 0 28 (dk_at dksX2_at_2 5 rfl rfl)
theorem dX2_at_48 : decode cX2_at 48 = .ok (.areturn, 1) := dk_176 (dk_at dksX2_at_2 8 rfl rfl)
theorem dX2_at_49 : decode cX2_at 49 = .ok (.iinc 2 1, 3) := dk_132 2 1 (dk_at dksX2_at_2 9 rfl rfl)
theorem dX2_at_52 : decode cX2_at 52 = .ok (.goto (-50), 3) := dk_167 255 206 (dk_at dksX2_at_2 12 rfl rfl)
theorem dX2_at_55 : decode cX2_at 55 = .ok (.aconst_null, 1) := dk_1 (dk_at dksX2_at_2 15 rfl rfl)
theorem dX2_at_56 : decode cX2_at 56 = .ok (.areturn, 1) := dk_176 (dk_at dksX2_at_2 16 rfl rfl)
abbrev cX2_put : ByteArray := prog_8_method_5_code
def yX2_put : MethodName := ⟨RX2, "put", "(III)V"⟩
def dkwX2_put_1 : List UInt8 := [87, 177]
abbrev dktX2_put_1 : List UInt8 := dkwX2_put_1 ++ []
def dkwX2_put_0 : List UInt8 := [42, 27, 182, 0, 40, 42, 180, 0, 12, 187, 0, 28, 89, 27, 28, 29, 183, 0, 44, 185, 0, 47, 2, 0]
abbrev dktX2_put_0 : List UInt8 := dkwX2_put_0 ++ dktX2_put_1
theorem dksX2_put_0 : cX2_put.data.toList.drop 0 = dktX2_put_0 := by decide +kernel
theorem dksX2_put_1 : cX2_put.data.toList.drop 24 = dktX2_put_1 := dk_seg dksX2_put_0 24 rfl rfl
theorem dX2_put_0 : decode cX2_put 0 = .ok (.aload_n 0, 1) := dk_42 (dk_at dksX2_put_0 0 rfl rfl)
theorem dX2_put_1 : decode cX2_put 1 = .ok (.iload_n 1, 1) := dk_27 (dk_at dksX2_put_0 1 rfl rfl)
theorem dX2_put_2 : decode cX2_put 2 = .ok (.invokevirtual 40, 3) := dk_182 0 40 (dk_at dksX2_put_0 2 rfl rfl)
theorem dX2_put_5 : decode cX2_put 5 = .ok (.aload_n 0, 1) := dk_42 (dk_at dksX2_put_0 5 rfl rfl)
theorem dX2_put_6 : decode cX2_put 6 = .ok (.getfield 12, 3) := dk_180 0 12 (dk_at dksX2_put_0 6 rfl rfl)
theorem dX2_put_9 : decode cX2_put 9 = .ok (.new 28, 3) := dk_187 0 28 (dk_at dksX2_put_0 9 rfl rfl)
theorem dX2_put_12 : decode cX2_put 12 = .ok (.dup, 1) := dk_89 (dk_at dksX2_put_0 12 rfl rfl)
theorem dX2_put_13 : decode cX2_put 13 = .ok (.iload_n 1, 1) := dk_27 (dk_at dksX2_put_0 13 rfl rfl)
theorem dX2_put_14 : decode cX2_put 14 = .ok (.iload_n 2, 1) := dk_28 (dk_at dksX2_put_0 14 rfl rfl)
theorem dX2_put_15 : decode cX2_put 15 = .ok (.iload_n 3, 1) := dk_29 (dk_at dksX2_put_0 15 rfl rfl)
theorem dX2_put_16 : decode cX2_put 16 = .ok (.invokespecial 44, 3) := dk_183 0 44 (dk_at dksX2_put_0 16 rfl rfl)
theorem dX2_put_19 : decode cX2_put 19 = .ok (.invokeinterface 47 2, 5) := by decide +kernel
theorem dX2_put_24 : decode cX2_put 24 = .ok (.pop, 1) := dk_87 (dk_at dksX2_put_1 0 rfl rfl)
theorem dX2_put_25 : decode cX2_put 25 = .ok (.return_, 1) := dk_177 (dk_at dksX2_put_1 1 rfl rfl)
abbrev cX2_drop : ByteArray := prog_8_method_3_code
def yX2_drop : MethodName := ⟨RX2, "drop", "(I)V"⟩
def dkwX2_drop_2 : List UInt8 := [185, 0, 33, 2, 0, 87, 132, 2, 255, 167, 255, 218, 177]
abbrev dktX2_drop_2 : List UInt8 := dkwX2_drop_2 ++ []
def dkwX2_drop_1 : List UInt8 := [185, 0, 24, 2, 0, 192, 0, 28, 182, 0, 30, 27, 160, 0, 14, 42, 180, 0, 12, 28]
abbrev dktX2_drop_1 : List UInt8 := dkwX2_drop_1 ++ dktX2_drop_2
def dkwX2_drop_0 : List UInt8 := [42, 180, 0, 12, 185, 0, 18, 1, 0, 4, 100, 61, 28, 155, 0, 40, 42, 180, 0, 12, 28]
abbrev dktX2_drop_0 : List UInt8 := dkwX2_drop_0 ++ dktX2_drop_1
theorem dksX2_drop_0 : cX2_drop.data.toList.drop 0 = dktX2_drop_0 := by decide +kernel
theorem dksX2_drop_1 : cX2_drop.data.toList.drop 21 = dktX2_drop_1 := dk_seg dksX2_drop_0 21 rfl rfl
theorem dksX2_drop_2 : cX2_drop.data.toList.drop 41 = dktX2_drop_2 := dk_seg dksX2_drop_1 20 rfl rfl
theorem dX2_drop_0 : decode cX2_drop 0 = .ok (.aload_n 0, 1) := dk_42 (dk_at dksX2_drop_0 0 rfl rfl)
theorem dX2_drop_1 : decode cX2_drop 1 = .ok (.getfield 12, 3) := dk_180 0 12 (dk_at dksX2_drop_0 1 rfl rfl)
theorem dX2_drop_4 : decode cX2_drop 4 = .ok (.invokeinterface 18 1, 5) := by decide +kernel
theorem dX2_drop_9 : decode cX2_drop 9 = .ok (.iconst 1, 1) := dk_4 (dk_at dksX2_drop_0 9 rfl rfl)
theorem dX2_drop_10 : decode cX2_drop 10 = .ok (.isub, 1) := dk_100 (dk_at dksX2_drop_0 10 rfl rfl)
theorem dX2_drop_11 : decode cX2_drop 11 = .ok (.istore_n 2, 1) := dk_61 (dk_at dksX2_drop_0 11 rfl rfl)
theorem dX2_drop_12 : decode cX2_drop 12 = .ok (.iload_n 2, 1) := dk_28 (dk_at dksX2_drop_0 12 rfl rfl)
theorem dX2_drop_13 : decode cX2_drop 13 = .ok (.ifCond .lt 40, 3) := dk_155 0 40 (dk_at dksX2_drop_0 13 rfl rfl)
theorem dX2_drop_16 : decode cX2_drop 16 = .ok (.aload_n 0, 1) := dk_42 (dk_at dksX2_drop_0 16 rfl rfl)
theorem dX2_drop_17 : decode cX2_drop 17 = .ok (.getfield 12, 3) := dk_180 0 12 (dk_at dksX2_drop_0 17 rfl rfl)
theorem dX2_drop_20 : decode cX2_drop 20 = .ok (.iload_n 2, 1) := dk_28 (dk_at dksX2_drop_0 20 rfl rfl)
theorem dX2_drop_21 : decode cX2_drop 21 = .ok (.invokeinterface 24 2, 5) := by decide +kernel
theorem dX2_drop_26 : decode cX2_drop 26 = .ok (.checkcast 28, 3) := dk_192 0 28 (dk_at dksX2_drop_1 5 rfl rfl)
theorem dX2_drop_29 : decode cX2_drop 29 = .ok (.invokevirtual 30, 3) := dk_182 0 30 (dk_at dksX2_drop_1 8 rfl rfl)
theorem dX2_drop_32 : decode cX2_drop 32 = .ok (.iload_n 1, 1) := dk_27 (dk_at dksX2_drop_1 11 rfl rfl)
theorem dX2_drop_33 : decode cX2_drop 33 = .ok (.if_icmp .ne 14, 3) := dk_160 0 14 (dk_at dksX2_drop_1 12 rfl rfl)
theorem dX2_drop_36 : decode cX2_drop 36 = .ok (.aload_n 0, 1) := dk_42 (dk_at dksX2_drop_1 15 rfl rfl)
theorem dX2_drop_37 : decode cX2_drop 37 = .ok (.getfield 12, 3) := dk_180 0 12 (dk_at dksX2_drop_1 16 rfl rfl)
theorem dX2_drop_40 : decode cX2_drop 40 = .ok (.iload_n 2, 1) := dk_28 (dk_at dksX2_drop_1 19 rfl rfl)
theorem dX2_drop_41 : decode cX2_drop 41 = .ok (.invokeinterface 33 2, 5) := by decide +kernel
theorem dX2_drop_46 : decode cX2_drop 46 = .ok (.pop, 1) := dk_87 (dk_at dksX2_drop_2 5 rfl rfl)
theorem dX2_drop_47 : decode cX2_drop 47 = .ok (.iinc 2 (-1), 3) := dk_132 2 255 (dk_at dksX2_drop_2 6 rfl rfl)
theorem dX2_drop_50 : decode cX2_drop 50 = .ok (.goto (-38), 3) := dk_167 255 218 (dk_at dksX2_drop_2 9 rfl rfl)
theorem dX2_drop_53 : decode cX2_drop 53 = .ok (.return_, 1) := dk_177 (dk_at dksX2_drop_2 12 rfl rfl)
abbrev cX2_isAlike : ByteArray := prog_8_method_7_code
def yX2_isAlike : MethodName := ⟨RX2, "isAlike", "(LCrateDeck$Layer;)Z"⟩
def dkwX2_isAlike_5 : List UInt8 := [160, 0, 7, 4, 167, 0, 4, 3, 61, 132, 3, 1, 167, 255, 155, 28, 172]
abbrev dktX2_isAlike_5 : List UInt8 := dkwX2_isAlike_5 ++ []
def dkwX2_isAlike_4 : List UInt8 := [160, 0, 31, 25, 4, 182, 0, 58, 42, 180, 0, 12, 29, 185, 0, 24, 2, 0, 192, 0, 28, 182, 0, 58]
abbrev dktX2_isAlike_4 : List UInt8 := dkwX2_isAlike_4 ++ dktX2_isAlike_5
def dkwX2_isAlike_3 : List UInt8 := [198, 0, 55, 25, 4, 182, 0, 55, 42, 180, 0, 12, 29, 185, 0, 24, 2, 0, 192, 0, 28, 182, 0, 55]
abbrev dktX2_isAlike_3 : List UInt8 := dkwX2_isAlike_3 ++ dktX2_isAlike_4
def dkwX2_isAlike_2 : List UInt8 := [43, 42, 180, 0, 12, 29, 185, 0, 24, 2, 0, 192, 0, 28, 182, 0, 30, 182, 0, 51, 58, 4, 25, 4]
abbrev dktX2_isAlike_2 : List UInt8 := dkwX2_isAlike_2 ++ dktX2_isAlike_3
def dkwX2_isAlike_1 : List UInt8 := [167, 0, 4, 3, 61, 3, 62, 29, 42, 180, 0, 12, 185, 0, 18, 1, 0, 162, 0, 94, 28, 153, 0, 90]
abbrev dktX2_isAlike_1 : List UInt8 := dkwX2_isAlike_1 ++ dktX2_isAlike_2
def dkwX2_isAlike_0 : List UInt8 := [42, 180, 0, 12, 185, 0, 18, 1, 0, 43, 180, 0, 12, 185, 0, 18, 1, 0, 160, 0, 7, 4]
abbrev dktX2_isAlike_0 : List UInt8 := dkwX2_isAlike_0 ++ dktX2_isAlike_1
theorem dksX2_isAlike_0 : cX2_isAlike.data.toList.drop 0 = dktX2_isAlike_0 := by decide +kernel
theorem dksX2_isAlike_1 : cX2_isAlike.data.toList.drop 22 = dktX2_isAlike_1 := dk_seg dksX2_isAlike_0 22 rfl rfl
theorem dksX2_isAlike_2 : cX2_isAlike.data.toList.drop 46 = dktX2_isAlike_2 := dk_seg dksX2_isAlike_1 24 rfl rfl
theorem dksX2_isAlike_3 : cX2_isAlike.data.toList.drop 70 = dktX2_isAlike_3 := dk_seg dksX2_isAlike_2 24 rfl rfl
theorem dksX2_isAlike_4 : cX2_isAlike.data.toList.drop 94 = dktX2_isAlike_4 := dk_seg dksX2_isAlike_3 24 rfl rfl
theorem dksX2_isAlike_5 : cX2_isAlike.data.toList.drop 118 = dktX2_isAlike_5 := dk_seg dksX2_isAlike_4 24 rfl rfl
theorem dX2_isAlike_0 : decode cX2_isAlike 0 = .ok (.aload_n 0, 1) := dk_42 (dk_at dksX2_isAlike_0 0 rfl rfl)
theorem dX2_isAlike_1 : decode cX2_isAlike 1 = .ok (.getfield 12, 3) := dk_180 0 12 (dk_at dksX2_isAlike_0 1 rfl rfl)
theorem dX2_isAlike_4 : decode cX2_isAlike 4 = .ok (.invokeinterface 18 1, 5) := by decide +kernel
theorem dX2_isAlike_9 : decode cX2_isAlike 9 = .ok (.aload_n 1, 1) := dk_43 (dk_at dksX2_isAlike_0 9 rfl rfl)
theorem dX2_isAlike_10 : decode cX2_isAlike 10 = .ok (.getfield 12, 3) := dk_180 0 12 (dk_at dksX2_isAlike_0 10 rfl rfl)
theorem dX2_isAlike_13 : decode cX2_isAlike 13 = .ok (.invokeinterface 18 1, 5) := by decide +kernel
theorem dX2_isAlike_18 : decode cX2_isAlike 18 = .ok (.if_icmp .ne 7, 3) := dk_160 0 7 (dk_at dksX2_isAlike_0 18 rfl rfl)
theorem dX2_isAlike_21 : decode cX2_isAlike 21 = .ok (.iconst 1, 1) := dk_4 (dk_at dksX2_isAlike_0 21 rfl rfl)
theorem dX2_isAlike_22 : decode cX2_isAlike 22 = .ok (.goto 4, 3) := dk_167 0 4 (dk_at dksX2_isAlike_1 0 rfl rfl)
theorem dX2_isAlike_25 : decode cX2_isAlike 25 = .ok (.iconst 0, 1) := dk_3 (dk_at dksX2_isAlike_1 3 rfl rfl)
theorem dX2_isAlike_26 : decode cX2_isAlike 26 = .ok (.istore_n 2, 1) := dk_61 (dk_at dksX2_isAlike_1 4 rfl rfl)
theorem dX2_isAlike_27 : decode cX2_isAlike 27 = .ok (.iconst 0, 1) := dk_3 (dk_at dksX2_isAlike_1 5 rfl rfl)
theorem dX2_isAlike_28 : decode cX2_isAlike 28 = .ok (.istore_n 3, 1) := dk_62 (dk_at dksX2_isAlike_1 6 rfl rfl)
theorem dX2_isAlike_29 : decode cX2_isAlike 29 = .ok (.iload_n 3, 1) := dk_29 (dk_at dksX2_isAlike_1 7 rfl rfl)
theorem dX2_isAlike_30 : decode cX2_isAlike 30 = .ok (.aload_n 0, 1) := dk_42 (dk_at dksX2_isAlike_1 8 rfl rfl)
theorem dX2_isAlike_31 : decode cX2_isAlike 31 = .ok (.getfield 12, 3) := dk_180 0 12 (dk_at dksX2_isAlike_1 9 rfl rfl)
theorem dX2_isAlike_34 : decode cX2_isAlike 34 = .ok (.invokeinterface 18 1, 5) := by decide +kernel
theorem dX2_isAlike_39 : decode cX2_isAlike 39 = .ok (.if_icmp .ge 94, 3) := dk_162 0 94 (dk_at dksX2_isAlike_1 17 rfl rfl)
theorem dX2_isAlike_42 : decode cX2_isAlike 42 = .ok (.iload_n 2, 1) := dk_28 (dk_at dksX2_isAlike_1 20 rfl rfl)
theorem dX2_isAlike_43 : decode cX2_isAlike 43 = .ok (.ifCond .eq 90, 3) := dk_153 0 90 (dk_at dksX2_isAlike_1 21 rfl rfl)
theorem dX2_isAlike_46 : decode cX2_isAlike 46 = .ok (.aload_n 1, 1) := dk_43 (dk_at dksX2_isAlike_2 0 rfl rfl)
theorem dX2_isAlike_47 : decode cX2_isAlike 47 = .ok (.aload_n 0, 1) := dk_42 (dk_at dksX2_isAlike_2 1 rfl rfl)
theorem dX2_isAlike_48 : decode cX2_isAlike 48 = .ok (.getfield 12, 3) := dk_180 0 12 (dk_at dksX2_isAlike_2 2 rfl rfl)
theorem dX2_isAlike_51 : decode cX2_isAlike 51 = .ok (.iload_n 3, 1) := dk_29 (dk_at dksX2_isAlike_2 5 rfl rfl)
theorem dX2_isAlike_52 : decode cX2_isAlike 52 = .ok (.invokeinterface 24 2, 5) := by decide +kernel
theorem dX2_isAlike_57 : decode cX2_isAlike 57 = .ok (.checkcast 28, 3) := dk_192 0 28 (dk_at dksX2_isAlike_2 11 rfl rfl)
theorem dX2_isAlike_60 : decode cX2_isAlike 60 = .ok (.invokevirtual 30, 3) := dk_182 0 30 (dk_at dksX2_isAlike_2 14 rfl rfl)
theorem dX2_isAlike_63 : decode cX2_isAlike 63 = .ok (.invokevirtual 51, 3) := dk_182 0 51 (dk_at dksX2_isAlike_2 17 rfl rfl)
theorem dX2_isAlike_66 : decode cX2_isAlike 66 = .ok (.astore 4, 2) := dk_58 4 (dk_at dksX2_isAlike_2 20 rfl rfl)
theorem dX2_isAlike_68 : decode cX2_isAlike 68 = .ok (.aload 4, 2) := dk_25 4 (dk_at dksX2_isAlike_2 22 rfl rfl)
theorem dX2_isAlike_70 : decode cX2_isAlike 70 = .ok (.ifnull 55, 3) := dk_198 0 55 (dk_at dksX2_isAlike_3 0 rfl rfl)
theorem dX2_isAlike_73 : decode cX2_isAlike 73 = .ok (.aload 4, 2) := dk_25 4 (dk_at dksX2_isAlike_3 3 rfl rfl)
theorem dX2_isAlike_75 : decode cX2_isAlike 75 = .ok (.invokevirtual 55, 3) := dk_182 0 55 (dk_at dksX2_isAlike_3 5 rfl rfl)
theorem dX2_isAlike_78 : decode cX2_isAlike 78 = .ok (.aload_n 0, 1) := dk_42 (dk_at dksX2_isAlike_3 8 rfl rfl)
theorem dX2_isAlike_79 : decode cX2_isAlike 79 = .ok (.getfield 12, 3) := dk_180 0 12 (dk_at dksX2_isAlike_3 9 rfl rfl)
theorem dX2_isAlike_82 : decode cX2_isAlike 82 = .ok (.iload_n 3, 1) := dk_29 (dk_at dksX2_isAlike_3 12 rfl rfl)
theorem dX2_isAlike_83 : decode cX2_isAlike 83 = .ok (.invokeinterface 24 2, 5) := by decide +kernel
theorem dX2_isAlike_88 : decode cX2_isAlike 88 = .ok (.checkcast 28, 3) := dk_192 0 28 (dk_at dksX2_isAlike_3 18 rfl rfl)
theorem dX2_isAlike_91 : decode cX2_isAlike 91 = .ok (.invokevirtual 55, 3) := dk_182 0 55 (dk_at dksX2_isAlike_3 21 rfl rfl)
theorem dX2_isAlike_94 : decode cX2_isAlike 94 = .ok (.if_icmp .ne 31, 3) := dk_160 0 31 (dk_at dksX2_isAlike_4 0 rfl rfl)
theorem dX2_isAlike_97 : decode cX2_isAlike 97 = .ok (.aload 4, 2) := dk_25 4 (dk_at dksX2_isAlike_4 3 rfl rfl)
theorem dX2_isAlike_99 : decode cX2_isAlike 99 = .ok (.invokevirtual 58, 3) := dk_182 0 58 (dk_at dksX2_isAlike_4 5 rfl rfl)
theorem dX2_isAlike_102 : decode cX2_isAlike 102 = .ok (.aload_n 0, 1) := dk_42 (dk_at dksX2_isAlike_4 8 rfl rfl)
theorem dX2_isAlike_103 : decode cX2_isAlike 103 = .ok (.getfield 12, 3) := dk_180 0 12 (dk_at dksX2_isAlike_4 9 rfl rfl)
theorem dX2_isAlike_106 : decode cX2_isAlike 106 = .ok (.iload_n 3, 1) := dk_29 (dk_at dksX2_isAlike_4 12 rfl rfl)
theorem dX2_isAlike_107 : decode cX2_isAlike 107 = .ok (.invokeinterface 24 2, 5) := by decide +kernel
theorem dX2_isAlike_112 : decode cX2_isAlike 112 = .ok (.checkcast 28, 3) := dk_192 0 28 (dk_at dksX2_isAlike_4 18 rfl rfl)
theorem dX2_isAlike_115 : decode cX2_isAlike 115 = .ok (.invokevirtual 58, 3) := dk_182 0 58 (dk_at dksX2_isAlike_4 21 rfl rfl)
theorem dX2_isAlike_118 : decode cX2_isAlike 118 = .ok (.if_icmp .ne 7, 3) := dk_160 0 7 (dk_at dksX2_isAlike_5 0 rfl rfl)
theorem dX2_isAlike_121 : decode cX2_isAlike 121 = .ok (.iconst 1, 1) := dk_4 (dk_at dksX2_isAlike_5 3 rfl rfl)
theorem dX2_isAlike_122 : decode cX2_isAlike 122 = .ok (.goto 4, 3) := dk_167 0 4 (dk_at dksX2_isAlike_5 4 rfl rfl)
theorem dX2_isAlike_125 : decode cX2_isAlike 125 = .ok (.iconst 0, 1) := dk_3 (dk_at dksX2_isAlike_5 7 rfl rfl)
theorem dX2_isAlike_126 : decode cX2_isAlike 126 = .ok (.istore_n 2, 1) := dk_61 (dk_at dksX2_isAlike_5 8 rfl rfl)
theorem dX2_isAlike_127 : decode cX2_isAlike 127 = .ok (.iinc 3 1, 3) := dk_132 3 1 (dk_at dksX2_isAlike_5 9 rfl rfl)
theorem dX2_isAlike_130 : decode cX2_isAlike 130 = .ok (.goto (-101), 3) := dk_167 255 155 (dk_at dksX2_isAlike_5 12 rfl rfl)
theorem dX2_isAlike_133 : decode cX2_isAlike 133 = .ok (.iload_n 2, 1) := dk_28 (dk_at dksX2_isAlike_5 15 rfl rfl)
theorem dX2_isAlike_134 : decode cX2_isAlike 134 = .ok (.ireturn, 1) := dk_172 (dk_at dksX2_isAlike_5 16 rfl rfl)
abbrev cX2_copy : ByteArray := prog_8_method_8_code
def yX2_copy : MethodName := ⟨RX2, "copy", "(LCrateDeck$Layer;)V"⟩
def dkwX2_copy_0 : List UInt8 := [42, 180, 0, 12, 185, 0, 61, 1, 0, 42, 180, 0, 12, 43, 180, 0, 12, 185, 0, 64, 2, 0, 87, 177]
abbrev dktX2_copy_0 : List UInt8 := dkwX2_copy_0 ++ []
theorem dksX2_copy_0 : cX2_copy.data.toList.drop 0 = dktX2_copy_0 := by decide +kernel
theorem dX2_copy_0 : decode cX2_copy 0 = .ok (.aload_n 0, 1) := dk_42 (dk_at dksX2_copy_0 0 rfl rfl)
theorem dX2_copy_1 : decode cX2_copy 1 = .ok (.getfield 12, 3) := dk_180 0 12 (dk_at dksX2_copy_0 1 rfl rfl)
theorem dX2_copy_4 : decode cX2_copy 4 = .ok (.invokeinterface 61 1, 5) := by decide +kernel
theorem dX2_copy_9 : decode cX2_copy 9 = .ok (.aload_n 0, 1) := dk_42 (dk_at dksX2_copy_0 9 rfl rfl)
theorem dX2_copy_10 : decode cX2_copy 10 = .ok (.getfield 12, 3) := dk_180 0 12 (dk_at dksX2_copy_0 10 rfl rfl)
theorem dX2_copy_13 : decode cX2_copy 13 = .ok (.aload_n 1, 1) := dk_43 (dk_at dksX2_copy_0 13 rfl rfl)
theorem dX2_copy_14 : decode cX2_copy 14 = .ok (.getfield 12, 3) := dk_180 0 12 (dk_at dksX2_copy_0 14 rfl rfl)
theorem dX2_copy_17 : decode cX2_copy 17 = .ok (.invokeinterface 64 2, 5) := by decide +kernel
theorem dX2_copy_22 : decode cX2_copy 22 = .ok (.pop, 1) := dk_87 (dk_at dksX2_copy_0 22 rfl rfl)
theorem dX2_copy_23 : decode cX2_copy 23 = .ok (.return_, 1) := dk_177 (dk_at dksX2_copy_0 23 rfl rfl)
abbrev cX2_kindAt : ByteArray := prog_8_method_6_code
def yX2_kindAt : MethodName := ⟨RX2, "kindAt", "(I)I"⟩
def dkwX2_kindAt_3 : List UInt8 := [167, 0, 4, 3, 172]
abbrev dktX2_kindAt_3 : List UInt8 := dkwX2_kindAt_3 ++ []
def dkwX2_kindAt_2 : List UInt8 := [192, 0, 28, 182, 0, 30, 27, 184, 0, 36, 128, 62, 132, 4, 1, 167, 255, 215, 29, 153, 0, 7, 5]
abbrev dktX2_kindAt_2 : List UInt8 := dkwX2_kindAt_2 ++ dktX2_kindAt_3
def dkwX2_kindAt_1 : List UInt8 := [180, 0, 12, 185, 0, 18, 1, 0, 162, 0, 33, 29, 42, 180, 0, 12, 21, 4, 185, 0, 24, 2, 0]
abbrev dktX2_kindAt_1 : List UInt8 := dkwX2_kindAt_1 ++ dktX2_kindAt_2
def dkwX2_kindAt_0 : List UInt8 := [42, 27, 182, 0, 51, 77, 44, 198, 0, 8, 44, 182, 0, 55, 172, 3, 62, 3, 54, 4, 21, 4, 42]
abbrev dktX2_kindAt_0 : List UInt8 := dkwX2_kindAt_0 ++ dktX2_kindAt_1
theorem dksX2_kindAt_0 : cX2_kindAt.data.toList.drop 0 = dktX2_kindAt_0 := by decide +kernel
theorem dksX2_kindAt_1 : cX2_kindAt.data.toList.drop 23 = dktX2_kindAt_1 := dk_seg dksX2_kindAt_0 23 rfl rfl
theorem dksX2_kindAt_2 : cX2_kindAt.data.toList.drop 46 = dktX2_kindAt_2 := dk_seg dksX2_kindAt_1 23 rfl rfl
theorem dksX2_kindAt_3 : cX2_kindAt.data.toList.drop 69 = dktX2_kindAt_3 := dk_seg dksX2_kindAt_2 23 rfl rfl
theorem dX2_kindAt_0 : decode cX2_kindAt 0 = .ok (.aload_n 0, 1) := dk_42 (dk_at dksX2_kindAt_0 0 rfl rfl)
theorem dX2_kindAt_1 : decode cX2_kindAt 1 = .ok (.iload_n 1, 1) := dk_27 (dk_at dksX2_kindAt_0 1 rfl rfl)
theorem dX2_kindAt_2 : decode cX2_kindAt 2 = .ok (.invokevirtual 51, 3) := dk_182 0 51 (dk_at dksX2_kindAt_0 2 rfl rfl)
theorem dX2_kindAt_5 : decode cX2_kindAt 5 = .ok (.astore_n 2, 1) := dk_77 (dk_at dksX2_kindAt_0 5 rfl rfl)
theorem dX2_kindAt_6 : decode cX2_kindAt 6 = .ok (.aload_n 2, 1) := dk_44 (dk_at dksX2_kindAt_0 6 rfl rfl)
theorem dX2_kindAt_7 : decode cX2_kindAt 7 = .ok (.ifnull 8, 3) := dk_198 0 8 (dk_at dksX2_kindAt_0 7 rfl rfl)
theorem dX2_kindAt_10 : decode cX2_kindAt 10 = .ok (.aload_n 2, 1) := dk_44 (dk_at dksX2_kindAt_0 10 rfl rfl)
theorem dX2_kindAt_11 : decode cX2_kindAt 11 = .ok (.invokevirtual 55, 3) := dk_182 0 55 (dk_at dksX2_kindAt_0 11 rfl rfl)
theorem dX2_kindAt_14 : decode cX2_kindAt 14 = .ok (.ireturn, 1) := dk_172 (dk_at dksX2_kindAt_0 14 rfl rfl)
theorem dX2_kindAt_15 : decode cX2_kindAt 15 = .ok (.iconst 0, 1) := dk_3 (dk_at dksX2_kindAt_0 15 rfl rfl)
theorem dX2_kindAt_16 : decode cX2_kindAt 16 = .ok (.istore_n 3, 1) := dk_62 (dk_at dksX2_kindAt_0 16 rfl rfl)
theorem dX2_kindAt_17 : decode cX2_kindAt 17 = .ok (.iconst 0, 1) := dk_3 (dk_at dksX2_kindAt_0 17 rfl rfl)
theorem dX2_kindAt_18 : decode cX2_kindAt 18 = .ok (.istore 4, 2) := dk_54 4 (dk_at dksX2_kindAt_0 18 rfl rfl)
theorem dX2_kindAt_20 : decode cX2_kindAt 20 = .ok (.iload 4, 2) := dk_21 4 (dk_at dksX2_kindAt_0 20 rfl rfl)
theorem dX2_kindAt_22 : decode cX2_kindAt 22 = .ok (.aload_n 0, 1) := dk_42 (dk_at dksX2_kindAt_0 22 rfl rfl)
theorem dX2_kindAt_23 : decode cX2_kindAt 23 = .ok (.getfield 12, 3) := dk_180 0 12 (dk_at dksX2_kindAt_1 0 rfl rfl)
theorem dX2_kindAt_26 : decode cX2_kindAt 26 = .ok (.invokeinterface 18 1, 5) := by decide +kernel
theorem dX2_kindAt_31 : decode cX2_kindAt 31 = .ok (.if_icmp .ge 33, 3) := dk_162 0 33 (dk_at dksX2_kindAt_1 8 rfl rfl)
theorem dX2_kindAt_34 : decode cX2_kindAt 34 = .ok (.iload_n 3, 1) := dk_29 (dk_at dksX2_kindAt_1 11 rfl rfl)
theorem dX2_kindAt_35 : decode cX2_kindAt 35 = .ok (.aload_n 0, 1) := dk_42 (dk_at dksX2_kindAt_1 12 rfl rfl)
theorem dX2_kindAt_36 : decode cX2_kindAt 36 = .ok (.getfield 12, 3) := dk_180 0 12 (dk_at dksX2_kindAt_1 13 rfl rfl)
theorem dX2_kindAt_39 : decode cX2_kindAt 39 = .ok (.iload 4, 2) := dk_21 4 (dk_at dksX2_kindAt_1 16 rfl rfl)
theorem dX2_kindAt_41 : decode cX2_kindAt 41 = .ok (.invokeinterface 24 2, 5) := by decide +kernel
theorem dX2_kindAt_46 : decode cX2_kindAt 46 = .ok (.checkcast 28, 3) := dk_192 0 28 (dk_at dksX2_kindAt_2 0 rfl rfl)
theorem dX2_kindAt_49 : decode cX2_kindAt 49 = .ok (.invokevirtual 30, 3) := dk_182 0 30 (dk_at dksX2_kindAt_2 3 rfl rfl)
theorem dX2_kindAt_52 : decode cX2_kindAt 52 = .ok (.iload_n 1, 1) := dk_27 (dk_at dksX2_kindAt_2 6 rfl rfl)
theorem dX2_kindAt_53 : decode cX2_kindAt 53 = .ok (.invokestatic 36, 3) := dk_184 0 36 (dk_at dksX2_kindAt_2 7 rfl rfl)
theorem dX2_kindAt_56 : decode cX2_kindAt 56 = .ok (.ior, 1) := dk_128 (dk_at dksX2_kindAt_2 10 rfl rfl)
theorem dX2_kindAt_57 : decode cX2_kindAt 57 = .ok (.istore_n 3, 1) := dk_62 (dk_at dksX2_kindAt_2 11 rfl rfl)
theorem dX2_kindAt_58 : decode cX2_kindAt 58 = .ok (.iinc 4 1, 3) := dk_132 4 1 (dk_at dksX2_kindAt_2 12 rfl rfl)
theorem dX2_kindAt_61 : decode cX2_kindAt 61 = .ok (.goto (-41), 3) := dk_167 255 215 (dk_at dksX2_kindAt_2 15 rfl rfl)
theorem dX2_kindAt_64 : decode cX2_kindAt 64 = .ok (.iload_n 3, 1) := dk_29 (dk_at dksX2_kindAt_2 18 rfl rfl)
theorem dX2_kindAt_65 : decode cX2_kindAt 65 = .ok (.ifCond .eq 7, 3) := dk_153 0 7 (dk_at dksX2_kindAt_2 19 rfl rfl)
theorem dX2_kindAt_68 : decode cX2_kindAt 68 = .ok (.iconst 2, 1) := dk_5 (dk_at dksX2_kindAt_2 22 rfl rfl)
theorem dX2_kindAt_69 : decode cX2_kindAt 69 = .ok (.goto 4, 3) := dk_167 0 4 (dk_at dksX2_kindAt_3 0 rfl rfl)
theorem dX2_kindAt_72 : decode cX2_kindAt 72 = .ok (.iconst 0, 1) := dk_3 (dk_at dksX2_kindAt_3 3 rfl rfl)
theorem dX2_kindAt_73 : decode cX2_kindAt 73 = .ok (.ireturn, 1) := dk_172 (dk_at dksX2_kindAt_3 4 rfl rfl)
abbrev cX2_dropWithin : ByteArray := prog_8_method_4_code
def yX2_dropWithin : MethodName := ⟨RX2, "dropWithin", "(I)V"⟩
def dkwX2_dropWithin_2 : List UInt8 := [185, 0, 33, 2, 0, 87, 132, 2, 255, 167, 255, 215, 177]
abbrev dktX2_dropWithin_2 : List UInt8 := dkwX2_dropWithin_2 ++ []
def dkwX2_dropWithin_1 : List UInt8 := [185, 0, 24, 2, 0, 192, 0, 28, 182, 0, 30, 27, 184, 0, 36, 153, 0, 14, 42, 180, 0, 12, 28]
abbrev dktX2_dropWithin_1 : List UInt8 := dkwX2_dropWithin_1 ++ dktX2_dropWithin_2
def dkwX2_dropWithin_0 : List UInt8 := [42, 180, 0, 12, 185, 0, 18, 1, 0, 4, 100, 61, 28, 155, 0, 43, 42, 180, 0, 12, 28]
abbrev dktX2_dropWithin_0 : List UInt8 := dkwX2_dropWithin_0 ++ dktX2_dropWithin_1
theorem dksX2_dropWithin_0 : cX2_dropWithin.data.toList.drop 0 = dktX2_dropWithin_0 := by decide +kernel
theorem dksX2_dropWithin_1 : cX2_dropWithin.data.toList.drop 21 = dktX2_dropWithin_1 := dk_seg dksX2_dropWithin_0 21 rfl rfl
theorem dksX2_dropWithin_2 : cX2_dropWithin.data.toList.drop 44 = dktX2_dropWithin_2 := dk_seg dksX2_dropWithin_1 23 rfl rfl
theorem dX2_dropWithin_0 : decode cX2_dropWithin 0 = .ok (.aload_n 0, 1) := dk_42 (dk_at dksX2_dropWithin_0 0 rfl rfl)
theorem dX2_dropWithin_1 : decode cX2_dropWithin 1 = .ok (.getfield 12, 3) := dk_180 0 12 (dk_at dksX2_dropWithin_0 1 rfl rfl)
theorem dX2_dropWithin_4 : decode cX2_dropWithin 4 = .ok (.invokeinterface 18 1, 5) := by decide +kernel
theorem dX2_dropWithin_9 : decode cX2_dropWithin 9 = .ok (.iconst 1, 1) := dk_4 (dk_at dksX2_dropWithin_0 9 rfl rfl)
theorem dX2_dropWithin_10 : decode cX2_dropWithin 10 = .ok (.isub, 1) := dk_100 (dk_at dksX2_dropWithin_0 10 rfl rfl)
theorem dX2_dropWithin_11 : decode cX2_dropWithin 11 = .ok (.istore_n 2, 1) := dk_61 (dk_at dksX2_dropWithin_0 11 rfl rfl)
theorem dX2_dropWithin_12 : decode cX2_dropWithin 12 = .ok (.iload_n 2, 1) := dk_28 (dk_at dksX2_dropWithin_0 12 rfl rfl)
theorem dX2_dropWithin_13 : decode cX2_dropWithin 13 = .ok (.ifCond .lt 43, 3) := dk_155 0 43 (dk_at dksX2_dropWithin_0 13 rfl rfl)
theorem dX2_dropWithin_16 : decode cX2_dropWithin 16 = .ok (.aload_n 0, 1) := dk_42 (dk_at dksX2_dropWithin_0 16 rfl rfl)
theorem dX2_dropWithin_17 : decode cX2_dropWithin 17 = .ok (.getfield 12, 3) := dk_180 0 12 (dk_at dksX2_dropWithin_0 17 rfl rfl)
theorem dX2_dropWithin_20 : decode cX2_dropWithin 20 = .ok (.iload_n 2, 1) := dk_28 (dk_at dksX2_dropWithin_0 20 rfl rfl)
theorem dX2_dropWithin_21 : decode cX2_dropWithin 21 = .ok (.invokeinterface 24 2, 5) := by decide +kernel
theorem dX2_dropWithin_26 : decode cX2_dropWithin 26 = .ok (.checkcast 28, 3) := dk_192 0 28 (dk_at dksX2_dropWithin_1 5 rfl rfl)
theorem dX2_dropWithin_29 : decode cX2_dropWithin 29 = .ok (.invokevirtual 30, 3) := dk_182 0 30 (dk_at dksX2_dropWithin_1 8 rfl rfl)
theorem dX2_dropWithin_32 : decode cX2_dropWithin 32 = .ok (.iload_n 1, 1) := dk_27 (dk_at dksX2_dropWithin_1 11 rfl rfl)
theorem dX2_dropWithin_33 : decode cX2_dropWithin 33 = .ok (.invokestatic 36, 3) := dk_184 0 36 (dk_at dksX2_dropWithin_1 12 rfl rfl)
theorem dX2_dropWithin_36 : decode cX2_dropWithin 36 = .ok (.ifCond .eq 14, 3) := dk_153 0 14 (dk_at dksX2_dropWithin_1 15 rfl rfl)
theorem dX2_dropWithin_39 : decode cX2_dropWithin 39 = .ok (.aload_n 0, 1) := dk_42 (dk_at dksX2_dropWithin_1 18 rfl rfl)
theorem dX2_dropWithin_40 : decode cX2_dropWithin 40 = .ok (.getfield 12, 3) := dk_180 0 12 (dk_at dksX2_dropWithin_1 19 rfl rfl)
theorem dX2_dropWithin_43 : decode cX2_dropWithin 43 = .ok (.iload_n 2, 1) := dk_28 (dk_at dksX2_dropWithin_1 22 rfl rfl)
theorem dX2_dropWithin_44 : decode cX2_dropWithin 44 = .ok (.invokeinterface 33 2, 5) := by decide +kernel
theorem dX2_dropWithin_49 : decode cX2_dropWithin 49 = .ok (.pop, 1) := dk_87 (dk_at dksX2_dropWithin_2 5 rfl rfl)
theorem dX2_dropWithin_50 : decode cX2_dropWithin 50 = .ok (.iinc 2 (-1), 3) := dk_132 2 255 (dk_at dksX2_dropWithin_2 6 rfl rfl)
theorem dX2_dropWithin_53 : decode cX2_dropWithin 53 = .ok (.goto (-41), 3) := dk_167 255 215 (dk_at dksX2_dropWithin_2 9 rfl rfl)
theorem dX2_dropWithin_56 : decode cX2_dropWithin 56 = .ok (.return_, 1) := dk_177 (dk_at dksX2_dropWithin_2 12 rfl rfl)
theorem q87 : (Jvm.Cond.initialized "CrateDeck$Layer") ∈ lw_all := lw_g (lw_at lw_m1 2 rfl) rfl
theorem q132 : (Jvm.Cond.instantiable "CrateDeck$Layer" (1 : Nat)) ∈ lw_all := lw_g (lw_at lw_m1 47 rfl) rfl
theorem q134 : (Jvm.Cond.instanceMethod ({ cls := "CrateDeck$Layer", name := "<init>", desc := "()V" } : Jvm.MethodName)) ∈ lw_all := lw_g (lw_at lw_m1 49 rfl) rfl
theorem q135 : (Jvm.Cond.code ({ cls := "CrateDeck$Layer", name := "<init>", desc := "()V" } : Jvm.MethodName) prog_8_method_1_code (1 : Nat) (Option.none : Option Jvm.ClassFile.FieldType)) ∈ lw_all := lw_g (lw_at lw_m1 50 rfl) rfl
theorem q136 : (Jvm.Cond.methodLink "CrateDeck$Layer" (3 : Nat) ({ cls := "java/lang/Object", name := "<init>", desc := "()V" } : Jvm.MethodName)) ∈ lw_all := lw_g (lw_at lw_m1 51 rfl) rfl
theorem q137 : (Jvm.Cond.classLink "CrateDeck$Layer" (9 : Nat) "java/util/ArrayList") ∈ lw_all := lw_g (lw_at lw_m1 52 rfl) rfl
theorem q139 : (Jvm.Cond.methodLink "CrateDeck$Layer" (11 : Nat) ({ cls := "java/util/ArrayList", name := "<init>", desc := "()V" } : Jvm.MethodName)) ∈ lw_all := lw_g (lw_at lw_m1 54 rfl) rfl
theorem q163 : (Jvm.Cond.fieldLink "CrateDeck$Layer" (12 : Nat) "CrateDeck$Layer" "entries" "Ljava/util/List;") ∈ lw_all := lw_g (lw_at lw_m1 78 rfl) rfl
theorem q165 : (Jvm.Cond.laysFinal "CrateDeck$Layer" "CrateDeck$Layer" "entries" "Ljava/util/List;") ∈ lw_all := lw_g (lw_at lw_m1 80 rfl) rfl
theorem q166 : (Jvm.Cond.soleField "CrateDeck$Layer" "entries") ∈ lw_all := lw_g (lw_at lw_m1 81 rfl) rfl
theorem q167 : (Jvm.Cond.superclass "CrateDeck$Layer" "java/lang/Object") ∈ lw_all := lw_g (lw_at lw_m1 82 rfl) rfl
theorem q246 : (Jvm.Cond.selects "CrateDeck$Layer" ({ cls := "java/lang/Object", name := "getClass", desc := "()Ljava/lang/Class;" } : Jvm.MethodName) ({ cls := "java/lang/Object", name := "getClass", desc := "()Ljava/lang/Class;" } : Jvm.MethodName)) ∈ lw_all := lw_g (lw_at lw_m1 161 rfl) rfl
theorem q525 : (Jvm.Cond.instanceMethod ({ cls := "CrateDeck$Layer", name := "at", desc := "(I)LCrateDeck$Entry;" } : Jvm.MethodName)) ∈ lw_all := lw_g (lw_at lw_m2 200 rfl) rfl
theorem q526 : (Jvm.Cond.selects "CrateDeck$Layer" ({ cls := "CrateDeck$Layer", name := "at", desc := "(I)LCrateDeck$Entry;" } : Jvm.MethodName) ({ cls := "CrateDeck$Layer", name := "at", desc := "(I)LCrateDeck$Entry;" } : Jvm.MethodName)) ∈ lw_all := lw_g (lw_at lw_m2 201 rfl) rfl
theorem q527 : (Jvm.Cond.code ({ cls := "CrateDeck$Layer", name := "at", desc := "(I)LCrateDeck$Entry;" } : Jvm.MethodName) prog_8_method_2_code (3 : Nat) (Option.some (Jvm.ClassFile.FieldType.object "CrateDeck$Entry"))) ∈ lw_all := lw_g (lw_at lw_m2 202 rfl) rfl
theorem q528 : (Jvm.Cond.interfaceEntry "CrateDeck$Layer" (18 : Nat)) ∈ lw_tbl := lw_at lw_m2 203 rfl
theorem q529 : (Jvm.Cond.methodLink "CrateDeck$Layer" (18 : Nat) ({ cls := "java/util/List", name := "size", desc := "()I" } : Jvm.MethodName)) ∈ lw_all := lw_g (lw_at lw_m2 204 rfl) rfl
theorem q530 : (Jvm.Cond.interfaceEntry "CrateDeck$Layer" (24 : Nat)) ∈ lw_tbl := lw_at lw_m2 205 rfl
theorem q531 : (Jvm.Cond.methodLink "CrateDeck$Layer" (24 : Nat) ({ cls := "java/util/List", name := "get", desc := "(I)Ljava/lang/Object;" } : Jvm.MethodName)) ∈ lw_all := lw_g (lw_at lw_m2 206 rfl) rfl
theorem q532 : (Jvm.Cond.classLink "CrateDeck$Layer" (28 : Nat) "CrateDeck$Entry") ∈ lw_all := lw_g (lw_at lw_m2 207 rfl) rfl
theorem q533 : (Jvm.Cond.methodLink "CrateDeck$Layer" (30 : Nat) ({ cls := "CrateDeck$Entry", name := "path", desc := "()I" } : Jvm.MethodName)) ∈ lw_all := lw_g (lw_at lw_m2 208 rfl) rfl
theorem q556 : (Jvm.Cond.instanceMethod ({ cls := "CrateDeck$Layer", name := "put", desc := "(III)V" } : Jvm.MethodName)) ∈ lw_all := lw_g (lw_at lw_m2 231 rfl) rfl
theorem q557 : (Jvm.Cond.selects "CrateDeck$Layer" ({ cls := "CrateDeck$Layer", name := "put", desc := "(III)V" } : Jvm.MethodName) ({ cls := "CrateDeck$Layer", name := "put", desc := "(III)V" } : Jvm.MethodName)) ∈ lw_all := lw_g (lw_at lw_m2 232 rfl) rfl
theorem q558 : (Jvm.Cond.code ({ cls := "CrateDeck$Layer", name := "put", desc := "(III)V" } : Jvm.MethodName) prog_8_method_5_code (4 : Nat) (Option.none : Option Jvm.ClassFile.FieldType)) ∈ lw_all := lw_g (lw_at lw_m2 233 rfl) rfl
theorem q559 : (Jvm.Cond.methodLink "CrateDeck$Layer" (40 : Nat) ({ cls := "CrateDeck$Layer", name := "drop", desc := "(I)V" } : Jvm.MethodName)) ∈ lw_all := lw_g (lw_at lw_m2 234 rfl) rfl
theorem q560 : (Jvm.Cond.instanceMethod ({ cls := "CrateDeck$Layer", name := "drop", desc := "(I)V" } : Jvm.MethodName)) ∈ lw_all := lw_g (lw_at lw_m2 235 rfl) rfl
theorem q561 : (Jvm.Cond.selects "CrateDeck$Layer" ({ cls := "CrateDeck$Layer", name := "drop", desc := "(I)V" } : Jvm.MethodName) ({ cls := "CrateDeck$Layer", name := "drop", desc := "(I)V" } : Jvm.MethodName)) ∈ lw_all := lw_g (lw_at lw_m2 236 rfl) rfl
theorem q562 : (Jvm.Cond.code ({ cls := "CrateDeck$Layer", name := "drop", desc := "(I)V" } : Jvm.MethodName) prog_8_method_3_code (3 : Nat) (Option.none : Option Jvm.ClassFile.FieldType)) ∈ lw_all := lw_g (lw_at lw_m2 237 rfl) rfl
theorem q563 : (Jvm.Cond.interfaceEntry "CrateDeck$Layer" (33 : Nat)) ∈ lw_tbl := lw_at lw_m2 238 rfl
theorem q564 : (Jvm.Cond.methodLink "CrateDeck$Layer" (33 : Nat) ({ cls := "java/util/List", name := "remove", desc := "(I)Ljava/lang/Object;" } : Jvm.MethodName)) ∈ lw_all := lw_g (lw_at lw_m2 239 rfl) rfl
theorem q578 : (Jvm.Cond.methodLinkNest "CrateDeck$Layer" (44 : Nat) ({ cls := "CrateDeck$Entry", name := "<init>", desc := "(III)V" } : Jvm.MethodName) "CrateDeck") ∈ lw_tbl := lw_at lw_m3 13 rfl
theorem q595 : (Jvm.Cond.interfaceEntry "CrateDeck$Layer" (47 : Nat)) ∈ lw_tbl := lw_at lw_m3 30 rfl
theorem q596 : (Jvm.Cond.methodLink "CrateDeck$Layer" (47 : Nat) ({ cls := "java/util/List", name := "add", desc := "(Ljava/lang/Object;)Z" } : Jvm.MethodName)) ∈ lw_all := lw_g (lw_at lw_m3 31 rfl) rfl
theorem q609 : (Jvm.Cond.instanceMethod ({ cls := "CrateDeck$Layer", name := "isAlike", desc := "(LCrateDeck$Layer;)Z" } : Jvm.MethodName)) ∈ lw_all := lw_g (lw_at lw_m3 44 rfl) rfl
theorem q610 : (Jvm.Cond.selects "CrateDeck$Layer" ({ cls := "CrateDeck$Layer", name := "isAlike", desc := "(LCrateDeck$Layer;)Z" } : Jvm.MethodName) ({ cls := "CrateDeck$Layer", name := "isAlike", desc := "(LCrateDeck$Layer;)Z" } : Jvm.MethodName)) ∈ lw_all := lw_g (lw_at lw_m3 45 rfl) rfl
theorem q611 : (Jvm.Cond.code ({ cls := "CrateDeck$Layer", name := "isAlike", desc := "(LCrateDeck$Layer;)Z" } : Jvm.MethodName) prog_8_method_7_code (5 : Nat) (Option.some Jvm.ClassFile.FieldType.boolean)) ∈ lw_all := lw_g (lw_at lw_m3 46 rfl) rfl
theorem q612 : (Jvm.Cond.methodLink "CrateDeck$Layer" (51 : Nat) ({ cls := "CrateDeck$Layer", name := "at", desc := "(I)LCrateDeck$Entry;" } : Jvm.MethodName)) ∈ lw_all := lw_g (lw_at lw_m3 47 rfl) rfl
theorem q613 : (Jvm.Cond.methodLink "CrateDeck$Layer" (55 : Nat) ({ cls := "CrateDeck$Entry", name := "kind", desc := "()I" } : Jvm.MethodName)) ∈ lw_all := lw_g (lw_at lw_m3 48 rfl) rfl
theorem q617 : (Jvm.Cond.methodLink "CrateDeck$Layer" (58 : Nat) ({ cls := "CrateDeck$Entry", name := "content", desc := "()I" } : Jvm.MethodName)) ∈ lw_all := lw_g (lw_at lw_m3 52 rfl) rfl
theorem q626 : (Jvm.Cond.instanceMethod ({ cls := "CrateDeck$Layer", name := "copy", desc := "(LCrateDeck$Layer;)V" } : Jvm.MethodName)) ∈ lw_all := lw_g (lw_at lw_m3 61 rfl) rfl
theorem q627 : (Jvm.Cond.selects "CrateDeck$Layer" ({ cls := "CrateDeck$Layer", name := "copy", desc := "(LCrateDeck$Layer;)V" } : Jvm.MethodName) ({ cls := "CrateDeck$Layer", name := "copy", desc := "(LCrateDeck$Layer;)V" } : Jvm.MethodName)) ∈ lw_all := lw_g (lw_at lw_m3 62 rfl) rfl
theorem q628 : (Jvm.Cond.code ({ cls := "CrateDeck$Layer", name := "copy", desc := "(LCrateDeck$Layer;)V" } : Jvm.MethodName) prog_8_method_8_code (2 : Nat) (Option.none : Option Jvm.ClassFile.FieldType)) ∈ lw_all := lw_g (lw_at lw_m3 63 rfl) rfl
theorem q629 : (Jvm.Cond.interfaceEntry "CrateDeck$Layer" (61 : Nat)) ∈ lw_tbl := lw_at lw_m3 64 rfl
theorem q630 : (Jvm.Cond.methodLink "CrateDeck$Layer" (61 : Nat) ({ cls := "java/util/List", name := "clear", desc := "()V" } : Jvm.MethodName)) ∈ lw_all := lw_g (lw_at lw_m3 65 rfl) rfl
theorem q638 : (Jvm.Cond.interfaceEntry "CrateDeck$Layer" (64 : Nat)) ∈ lw_tbl := lw_at lw_m3 73 rfl
theorem q639 : (Jvm.Cond.methodLink "CrateDeck$Layer" (64 : Nat) ({ cls := "java/util/List", name := "addAll", desc := "(Ljava/util/Collection;)Z" } : Jvm.MethodName)) ∈ lw_all := lw_g (lw_at lw_m3 74 rfl) rfl
theorem q804 : (Jvm.Cond.instanceMethod ({ cls := "CrateDeck$Layer", name := "kindAt", desc := "(I)I" } : Jvm.MethodName)) ∈ lw_all := lw_g (lw_at lw_m3 239 rfl) rfl
theorem q805 : (Jvm.Cond.selects "CrateDeck$Layer" ({ cls := "CrateDeck$Layer", name := "kindAt", desc := "(I)I" } : Jvm.MethodName) ({ cls := "CrateDeck$Layer", name := "kindAt", desc := "(I)I" } : Jvm.MethodName)) ∈ lw_all := lw_g (lw_at lw_m4 0 rfl) rfl
theorem q806 : (Jvm.Cond.code ({ cls := "CrateDeck$Layer", name := "kindAt", desc := "(I)I" } : Jvm.MethodName) prog_8_method_6_code (5 : Nat) (Option.some Jvm.ClassFile.FieldType.int)) ∈ lw_all := lw_g (lw_at lw_m4 1 rfl) rfl
theorem q807 : (Jvm.Cond.methodLinkNest "CrateDeck$Layer" (36 : Nat) ({ cls := "CrateDeck", name := "isWithin", desc := "(II)Z" } : Jvm.MethodName) "CrateDeck") ∈ lw_tbl := lw_at lw_m4 2 rfl
theorem q958 : (Jvm.Cond.selects "CrateDeck$Layer" ({ cls := "java/lang/Object", name := "equals", desc := "(Ljava/lang/Object;)Z" } : Jvm.MethodName) ({ cls := "java/lang/Object", name := "equals", desc := "(Ljava/lang/Object;)Z" } : Jvm.MethodName)) ∈ lw_all := lw_g (lw_at lw_m4 153 rfl) rfl
theorem q1058 : (Jvm.Cond.instanceMethod ({ cls := "CrateDeck$Layer", name := "dropWithin", desc := "(I)V" } : Jvm.MethodName)) ∈ lw_all := lw_g (lw_at lw_m5 13 rfl) rfl
theorem q1059 : (Jvm.Cond.selects "CrateDeck$Layer" ({ cls := "CrateDeck$Layer", name := "dropWithin", desc := "(I)V" } : Jvm.MethodName) ({ cls := "CrateDeck$Layer", name := "dropWithin", desc := "(I)V" } : Jvm.MethodName)) ∈ lw_all := lw_g (lw_at lw_m5 14 rfl) rfl
theorem q1060 : (Jvm.Cond.code ({ cls := "CrateDeck$Layer", name := "dropWithin", desc := "(I)V" } : Jvm.MethodName) prog_8_method_4_code (3 : Nat) (Option.none : Option Jvm.ClassFile.FieldType)) ∈ lw_all := lw_g (lw_at lw_m5 15 rfl) rfl
theorem q2131 : (Jvm.Cond.castable "CrateDeck$Layer" "java/lang/Object") ∈ lw_tbl := lw_at lw_m9 126 rfl
theorem in_X2 : ∀ w ∈ wsX20, w ∈ lw_all := lw_in wsX20 [165] (by decide +kernel) (by decide +kernel)

/-! CrateDeck$Tree -/
set_option maxRecDepth 100000
def RX3 : String := "CrateDeck$Tree"
def TX3 : u_T := fun k => match k with
  | _ => ("CrateDeck$Tree", "layers", "Ljava/util/List;", true)
def tyX3 : Nat → FieldType := fun k => match k with
  | _ => .object "java/util/List"
abbrev wsX30 : List Cond := u_ws RX3 TX3 1
theorem nmX3 : ∀ a, a < 1 → ∀ b, b < 1 → a ≠ b → (TX3 a).2.1 ≠ (TX3 b).2.1 := by decide +kernel
theorem tyX3_ok : ∀ k, k < 1 → parseFieldDescriptor (TX3 k).2.2.1 = some (tyX3 k) := by decide +kernel
abbrev cX3_init : ByteArray := prog_14_method_1_code
def yX3_init : MethodName := ⟨RX3, "<init>", "()V"⟩
def dkwX3_init_0 : List UInt8 := [42, 183, 0, 3, 42, 187, 0, 9, 89, 183, 0, 11, 181, 0, 12, 177]
abbrev dktX3_init_0 : List UInt8 := dkwX3_init_0 ++ []
theorem dksX3_init_0 : cX3_init.data.toList.drop 0 = dktX3_init_0 := by decide +kernel
theorem dX3_init_0 : decode cX3_init 0 = .ok (.aload_n 0, 1) := dk_42 (dk_at dksX3_init_0 0 rfl rfl)
theorem dX3_init_1 : decode cX3_init 1 = .ok (.invokespecial 3, 3) := dk_183 0 3 (dk_at dksX3_init_0 1 rfl rfl)
theorem dX3_init_4 : decode cX3_init 4 = .ok (.aload_n 0, 1) := dk_42 (dk_at dksX3_init_0 4 rfl rfl)
theorem dX3_init_5 : decode cX3_init 5 = .ok (.new 9, 3) := dk_187 0 9 (dk_at dksX3_init_0 5 rfl rfl)
theorem dX3_init_8 : decode cX3_init 8 = .ok (.dup, 1) := dk_89 (dk_at dksX3_init_0 8 rfl rfl)
theorem dX3_init_9 : decode cX3_init 9 = .ok (.invokespecial 11, 3) := dk_183 0 11 (dk_at dksX3_init_0 9 rfl rfl)
theorem dX3_init_12 : decode cX3_init 12 = .ok (.putfield 12, 3) := dk_181 0 12 (dk_at dksX3_init_0 12 rfl rfl)
theorem dX3_init_15 : decode cX3_init 15 = .ok (.return_, 1) := dk_177 (dk_at dksX3_init_0 15 rfl rfl)
abbrev cX3_shows : ByteArray := prog_14_method_4_code
def yX3_shows : MethodName := ⟨RX3, "shows", "(I)I"⟩
def dkwX3_shows_4 : List UInt8 := [167, 0, 4, 5, 172, 132, 3, 255, 167, 255, 170, 3, 172]
abbrev dktX3_shows_4 : List UInt8 := dkwX3_shows_4 ++ []
def dkwX3_shows_3 : List UInt8 := [192, 0, 28, 27, 182, 0, 41, 182, 0, 45, 96, 172, 21, 4, 153, 0, 15, 21, 4, 7, 160, 0, 7, 3]
abbrev dktX3_shows_3 : List UInt8 := dkwX3_shows_3 ++ dktX3_shows_4
def dkwX3_shows_2 : List UInt8 := [167, 0, 4, 3, 54, 4, 21, 4, 4, 160, 0, 27, 16, 10, 42, 180, 0, 12, 29, 185, 0, 24, 2, 0]
abbrev dktX3_shows_2 : List UInt8 := dkwX3_shows_2 ++ dktX3_shows_3
def dkwX3_shows_1 : List UInt8 := [122, 4, 126, 4, 160, 0, 23, 42, 180, 0, 12, 29, 185, 0, 24, 2, 0, 192, 0, 28, 27, 182, 0, 30]
abbrev dktX3_shows_1 : List UInt8 := dkwX3_shows_1 ++ dktX3_shows_2
def dkwX3_shows_0 : List UInt8 := [42, 27, 182, 0, 38, 61, 42, 180, 0, 12, 185, 0, 18, 1, 0, 4, 100, 62, 29, 155, 0, 88, 28, 29]
abbrev dktX3_shows_0 : List UInt8 := dkwX3_shows_0 ++ dktX3_shows_1
theorem dksX3_shows_0 : cX3_shows.data.toList.drop 0 = dktX3_shows_0 := by decide +kernel
theorem dksX3_shows_1 : cX3_shows.data.toList.drop 24 = dktX3_shows_1 := dk_seg dksX3_shows_0 24 rfl rfl
theorem dksX3_shows_2 : cX3_shows.data.toList.drop 48 = dktX3_shows_2 := dk_seg dksX3_shows_1 24 rfl rfl
theorem dksX3_shows_3 : cX3_shows.data.toList.drop 72 = dktX3_shows_3 := dk_seg dksX3_shows_2 24 rfl rfl
theorem dksX3_shows_4 : cX3_shows.data.toList.drop 96 = dktX3_shows_4 := dk_seg dksX3_shows_3 24 rfl rfl
theorem dX3_shows_0 : decode cX3_shows 0 = .ok (.aload_n 0, 1) := dk_42 (dk_at dksX3_shows_0 0 rfl rfl)
theorem dX3_shows_1 : decode cX3_shows 1 = .ok (.iload_n 1, 1) := dk_27 (dk_at dksX3_shows_0 1 rfl rfl)
theorem dX3_shows_2 : decode cX3_shows 2 = .ok (.invokevirtual 38, 3) := dk_182 0 38 (dk_at dksX3_shows_0 2 rfl rfl)
theorem dX3_shows_5 : decode cX3_shows 5 = .ok (.istore_n 2, 1) := dk_61 (dk_at dksX3_shows_0 5 rfl rfl)
theorem dX3_shows_6 : decode cX3_shows 6 = .ok (.aload_n 0, 1) := dk_42 (dk_at dksX3_shows_0 6 rfl rfl)
theorem dX3_shows_7 : decode cX3_shows 7 = .ok (.getfield 12, 3) := dk_180 0 12 (dk_at dksX3_shows_0 7 rfl rfl)
theorem dX3_shows_10 : decode cX3_shows 10 = .ok (.invokeinterface 18 1, 5) := by decide +kernel
theorem dX3_shows_15 : decode cX3_shows 15 = .ok (.iconst 1, 1) := dk_4 (dk_at dksX3_shows_0 15 rfl rfl)
theorem dX3_shows_16 : decode cX3_shows 16 = .ok (.isub, 1) := dk_100 (dk_at dksX3_shows_0 16 rfl rfl)
theorem dX3_shows_17 : decode cX3_shows 17 = .ok (.istore_n 3, 1) := dk_62 (dk_at dksX3_shows_0 17 rfl rfl)
theorem dX3_shows_18 : decode cX3_shows 18 = .ok (.iload_n 3, 1) := dk_29 (dk_at dksX3_shows_0 18 rfl rfl)
theorem dX3_shows_19 : decode cX3_shows 19 = .ok (.ifCond .lt 88, 3) := dk_155 0 88 (dk_at dksX3_shows_0 19 rfl rfl)
theorem dX3_shows_22 : decode cX3_shows 22 = .ok (.iload_n 2, 1) := dk_28 (dk_at dksX3_shows_0 22 rfl rfl)
theorem dX3_shows_23 : decode cX3_shows 23 = .ok (.iload_n 3, 1) := dk_29 (dk_at dksX3_shows_0 23 rfl rfl)
theorem dX3_shows_24 : decode cX3_shows 24 = .ok (.ishr, 1) := dk_122 (dk_at dksX3_shows_1 0 rfl rfl)
theorem dX3_shows_25 : decode cX3_shows 25 = .ok (.iconst 1, 1) := dk_4 (dk_at dksX3_shows_1 1 rfl rfl)
theorem dX3_shows_26 : decode cX3_shows 26 = .ok (.iand, 1) := dk_126 (dk_at dksX3_shows_1 2 rfl rfl)
theorem dX3_shows_27 : decode cX3_shows 27 = .ok (.iconst 1, 1) := dk_4 (dk_at dksX3_shows_1 3 rfl rfl)
theorem dX3_shows_28 : decode cX3_shows 28 = .ok (.if_icmp .ne 23, 3) := dk_160 0 23 (dk_at dksX3_shows_1 4 rfl rfl)
theorem dX3_shows_31 : decode cX3_shows 31 = .ok (.aload_n 0, 1) := dk_42 (dk_at dksX3_shows_1 7 rfl rfl)
theorem dX3_shows_32 : decode cX3_shows 32 = .ok (.getfield 12, 3) := dk_180 0 12 (dk_at dksX3_shows_1 8 rfl rfl)
theorem dX3_shows_35 : decode cX3_shows 35 = .ok (.iload_n 3, 1) := dk_29 (dk_at dksX3_shows_1 11 rfl rfl)
theorem dX3_shows_36 : decode cX3_shows 36 = .ok (.invokeinterface 24 2, 5) := by decide +kernel
theorem dX3_shows_41 : decode cX3_shows 41 = .ok (.checkcast 28, 3) := dk_192 0 28 (dk_at dksX3_shows_1 17 rfl rfl)
theorem dX3_shows_44 : decode cX3_shows 44 = .ok (.iload_n 1, 1) := dk_27 (dk_at dksX3_shows_1 20 rfl rfl)
theorem dX3_shows_45 : decode cX3_shows 45 = .ok (.invokevirtual 30, 3) := dk_182 0 30 (dk_at dksX3_shows_1 21 rfl rfl)
theorem dX3_shows_48 : decode cX3_shows 48 = .ok (.goto 4, 3) := dk_167 0 4 (dk_at dksX3_shows_2 0 rfl rfl)
theorem dX3_shows_51 : decode cX3_shows 51 = .ok (.iconst 0, 1) := dk_3 (dk_at dksX3_shows_2 3 rfl rfl)
theorem dX3_shows_52 : decode cX3_shows 52 = .ok (.istore 4, 2) := dk_54 4 (dk_at dksX3_shows_2 4 rfl rfl)
theorem dX3_shows_54 : decode cX3_shows 54 = .ok (.iload 4, 2) := dk_21 4 (dk_at dksX3_shows_2 6 rfl rfl)
theorem dX3_shows_56 : decode cX3_shows 56 = .ok (.iconst 1, 1) := dk_4 (dk_at dksX3_shows_2 8 rfl rfl)
theorem dX3_shows_57 : decode cX3_shows 57 = .ok (.if_icmp .ne 27, 3) := dk_160 0 27 (dk_at dksX3_shows_2 9 rfl rfl)
theorem dX3_shows_60 : decode cX3_shows 60 = .ok (.bipush 10, 2) := dk_16 10 (dk_at dksX3_shows_2 12 rfl rfl)
theorem dX3_shows_62 : decode cX3_shows 62 = .ok (.aload_n 0, 1) := dk_42 (dk_at dksX3_shows_2 14 rfl rfl)
theorem dX3_shows_63 : decode cX3_shows 63 = .ok (.getfield 12, 3) := dk_180 0 12 (dk_at dksX3_shows_2 15 rfl rfl)
theorem dX3_shows_66 : decode cX3_shows 66 = .ok (.iload_n 3, 1) := dk_29 (dk_at dksX3_shows_2 18 rfl rfl)
theorem dX3_shows_67 : decode cX3_shows 67 = .ok (.invokeinterface 24 2, 5) := by decide +kernel
theorem dX3_shows_72 : decode cX3_shows 72 = .ok (.checkcast 28, 3) := dk_192 0 28 (dk_at dksX3_shows_3 0 rfl rfl)
theorem dX3_shows_75 : decode cX3_shows 75 = .ok (.iload_n 1, 1) := dk_27 (dk_at dksX3_shows_3 3 rfl rfl)
theorem dX3_shows_76 : decode cX3_shows 76 = .ok (.invokevirtual 41, 3) := dk_182 0 41 (dk_at dksX3_shows_3 4 rfl rfl)
theorem dX3_shows_79 : decode cX3_shows 79 = .ok (.invokevirtual 45, 3) := dk_182 0 45 (dk_at dksX3_shows_3 7 rfl rfl)
theorem dX3_shows_82 : decode cX3_shows 82 = .ok (.iadd, 1) := dk_96 (dk_at dksX3_shows_3 10 rfl rfl)
theorem dX3_shows_83 : decode cX3_shows 83 = .ok (.ireturn, 1) := dk_172 (dk_at dksX3_shows_3 11 rfl rfl)
theorem dX3_shows_84 : decode cX3_shows 84 = .ok (.iload 4, 2) := dk_21 4 (dk_at dksX3_shows_3 12 rfl rfl)
theorem dX3_shows_86 : decode cX3_shows 86 = .ok (.ifCond .eq 15, 3) := dk_153 0 15 (dk_at dksX3_shows_3 14 rfl rfl)
theorem dX3_shows_89 : decode cX3_shows 89 = .ok (.iload 4, 2) := dk_21 4 (dk_at dksX3_shows_3 17 rfl rfl)
theorem dX3_shows_91 : decode cX3_shows 91 = .ok (.iconst 4, 1) := dk_7 (dk_at dksX3_shows_3 19 rfl rfl)
theorem dX3_shows_92 : decode cX3_shows 92 = .ok (.if_icmp .ne 7, 3) := dk_160 0 7 (dk_at dksX3_shows_3 20 rfl rfl)
theorem dX3_shows_95 : decode cX3_shows 95 = .ok (.iconst 0, 1) := dk_3 (dk_at dksX3_shows_3 23 rfl rfl)
theorem dX3_shows_96 : decode cX3_shows 96 = .ok (.goto 4, 3) := dk_167 0 4 (dk_at dksX3_shows_4 0 rfl rfl)
theorem dX3_shows_99 : decode cX3_shows 99 = .ok (.iconst 2, 1) := dk_5 (dk_at dksX3_shows_4 3 rfl rfl)
theorem dX3_shows_100 : decode cX3_shows 100 = .ok (.ireturn, 1) := dk_172 (dk_at dksX3_shows_4 4 rfl rfl)
theorem dX3_shows_101 : decode cX3_shows 101 = .ok (.iinc 3 (-1), 3) := dk_132 3 255 (dk_at dksX3_shows_4 5 rfl rfl)
theorem dX3_shows_104 : decode cX3_shows 104 = .ok (.goto (-86), 3) := dk_167 255 170 (dk_at dksX3_shows_4 8 rfl rfl)
theorem dX3_shows_107 : decode cX3_shows 107 = .ok (.iconst 0, 1) := dk_3 (dk_at dksX3_shows_4 11 rfl rfl)
theorem dX3_shows_108 : decode cX3_shows 108 = .ok (.ireturn, 1) := dk_172 (dk_at dksX3_shows_4 12 rfl rfl)
abbrev cX3_around : ByteArray := prog_14_method_3_code
def yX3_around : MethodName := ⟨RX3, "around", "(I)I"⟩
def dkwX3_around_2 : List UInt8 := [28, 172]
abbrev dktX3_around_2 : List UInt8 := dkwX3_around_2 ++ []
def dkwX3_around_1 : List UInt8 := [108, 28, 182, 0, 34, 61, 27, 16, 10, 161, 0, 15, 42, 27, 16, 10, 108, 28, 182, 0, 34, 167, 0, 4]
abbrev dktX3_around_1 : List UInt8 := dkwX3_around_1 ++ dktX3_around_2
def dkwX3_around_0 : List UInt8 := [4, 42, 180, 0, 12, 185, 0, 18, 1, 0, 120, 4, 100, 61, 27, 16, 100, 161, 0, 13, 42, 27, 16, 100]
abbrev dktX3_around_0 : List UInt8 := dkwX3_around_0 ++ dktX3_around_1
theorem dksX3_around_0 : cX3_around.data.toList.drop 0 = dktX3_around_0 := by decide +kernel
theorem dksX3_around_1 : cX3_around.data.toList.drop 24 = dktX3_around_1 := dk_seg dksX3_around_0 24 rfl rfl
theorem dksX3_around_2 : cX3_around.data.toList.drop 48 = dktX3_around_2 := dk_seg dksX3_around_1 24 rfl rfl
theorem dX3_around_0 : decode cX3_around 0 = .ok (.iconst 1, 1) := dk_4 (dk_at dksX3_around_0 0 rfl rfl)
theorem dX3_around_1 : decode cX3_around 1 = .ok (.aload_n 0, 1) := dk_42 (dk_at dksX3_around_0 1 rfl rfl)
theorem dX3_around_2 : decode cX3_around 2 = .ok (.getfield 12, 3) := dk_180 0 12 (dk_at dksX3_around_0 2 rfl rfl)
theorem dX3_around_5 : decode cX3_around 5 = .ok (.invokeinterface 18 1, 5) := by decide +kernel
theorem dX3_around_10 : decode cX3_around 10 = .ok (.ishl, 1) := dk_120 (dk_at dksX3_around_0 10 rfl rfl)
theorem dX3_around_11 : decode cX3_around 11 = .ok (.iconst 1, 1) := dk_4 (dk_at dksX3_around_0 11 rfl rfl)
theorem dX3_around_12 : decode cX3_around 12 = .ok (.isub, 1) := dk_100 (dk_at dksX3_around_0 12 rfl rfl)
theorem dX3_around_13 : decode cX3_around 13 = .ok (.istore_n 2, 1) := dk_61 (dk_at dksX3_around_0 13 rfl rfl)
theorem dX3_around_14 : decode cX3_around 14 = .ok (.iload_n 1, 1) := dk_27 (dk_at dksX3_around_0 14 rfl rfl)
theorem dX3_around_15 : decode cX3_around 15 = .ok (.bipush 100, 2) := dk_16 100 (dk_at dksX3_around_0 15 rfl rfl)
theorem dX3_around_17 : decode cX3_around 17 = .ok (.if_icmp .lt 13, 3) := dk_161 0 13 (dk_at dksX3_around_0 17 rfl rfl)
theorem dX3_around_20 : decode cX3_around 20 = .ok (.aload_n 0, 1) := dk_42 (dk_at dksX3_around_0 20 rfl rfl)
theorem dX3_around_21 : decode cX3_around 21 = .ok (.iload_n 1, 1) := dk_27 (dk_at dksX3_around_0 21 rfl rfl)
theorem dX3_around_22 : decode cX3_around 22 = .ok (.bipush 100, 2) := dk_16 100 (dk_at dksX3_around_0 22 rfl rfl)
theorem dX3_around_24 : decode cX3_around 24 = .ok (.idiv, 1) := dk_108 (dk_at dksX3_around_1 0 rfl rfl)
theorem dX3_around_25 : decode cX3_around 25 = .ok (.iload_n 2, 1) := dk_28 (dk_at dksX3_around_1 1 rfl rfl)
theorem dX3_around_26 : decode cX3_around 26 = .ok (.invokevirtual 34, 3) := dk_182 0 34 (dk_at dksX3_around_1 2 rfl rfl)
theorem dX3_around_29 : decode cX3_around 29 = .ok (.istore_n 2, 1) := dk_61 (dk_at dksX3_around_1 5 rfl rfl)
theorem dX3_around_30 : decode cX3_around 30 = .ok (.iload_n 1, 1) := dk_27 (dk_at dksX3_around_1 6 rfl rfl)
theorem dX3_around_31 : decode cX3_around 31 = .ok (.bipush 10, 2) := dk_16 10 (dk_at dksX3_around_1 7 rfl rfl)
theorem dX3_around_33 : decode cX3_around 33 = .ok (.if_icmp .lt 15, 3) := dk_161 0 15 (dk_at dksX3_around_1 9 rfl rfl)
theorem dX3_around_36 : decode cX3_around 36 = .ok (.aload_n 0, 1) := dk_42 (dk_at dksX3_around_1 12 rfl rfl)
theorem dX3_around_37 : decode cX3_around 37 = .ok (.iload_n 1, 1) := dk_27 (dk_at dksX3_around_1 13 rfl rfl)
theorem dX3_around_38 : decode cX3_around 38 = .ok (.bipush 10, 2) := dk_16 10 (dk_at dksX3_around_1 14 rfl rfl)
theorem dX3_around_40 : decode cX3_around 40 = .ok (.idiv, 1) := dk_108 (dk_at dksX3_around_1 16 rfl rfl)
theorem dX3_around_41 : decode cX3_around 41 = .ok (.iload_n 2, 1) := dk_28 (dk_at dksX3_around_1 17 rfl rfl)
theorem dX3_around_42 : decode cX3_around 42 = .ok (.invokevirtual 34, 3) := dk_182 0 34 (dk_at dksX3_around_1 18 rfl rfl)
theorem dX3_around_45 : decode cX3_around 45 = .ok (.goto 4, 3) := dk_167 0 4 (dk_at dksX3_around_1 21 rfl rfl)
theorem dX3_around_48 : decode cX3_around 48 = .ok (.iload_n 2, 1) := dk_28 (dk_at dksX3_around_2 0 rfl rfl)
theorem dX3_around_49 : decode cX3_around 49 = .ok (.ireturn, 1) := dk_172 (dk_at dksX3_around_2 1 rfl rfl)
abbrev cX3_belongingTo : ByteArray := prog_14_method_2_code
def yX3_belongingTo : MethodName := ⟨RX3, "belongingTo", "(II)I"⟩
def dkwX3_belongingTo_4 : List UInt8 := [167, 255, 176, 29, 172]
abbrev dktX3_belongingTo_4 : List UInt8 := dkwX3_belongingTo_4 ++ []
def dkwX3_belongingTo_3 : List UInt8 := [154, 0, 7, 3, 167, 0, 7, 4, 21, 4, 120, 128, 62, 21, 5, 6, 160, 0, 5, 29, 172, 132, 4, 255]
abbrev dktX3_belongingTo_3 : List UInt8 := dkwX3_belongingTo_3 ++ dktX3_belongingTo_4
def dkwX3_belongingTo_2 : List UInt8 := [167, 0, 4, 3, 54, 5, 21, 5, 4, 159, 0, 9, 21, 5, 7, 160, 0, 5, 29, 172, 29, 21, 5]
abbrev dktX3_belongingTo_2 : List UInt8 := dkwX3_belongingTo_2 ++ dktX3_belongingTo_3
def dkwX3_belongingTo_1 : List UInt8 := [4, 126, 4, 160, 0, 24, 42, 180, 0, 12, 21, 4, 185, 0, 24, 2, 0, 192, 0, 28, 27, 182, 0, 30]
abbrev dktX3_belongingTo_1 : List UInt8 := dkwX3_belongingTo_1 ++ dktX3_belongingTo_2
def dkwX3_belongingTo_0 : List UInt8 := [3, 62, 42, 180, 0, 12, 185, 0, 18, 1, 0, 4, 100, 54, 4, 21, 4, 155, 0, 81, 28, 21, 4, 122]
abbrev dktX3_belongingTo_0 : List UInt8 := dkwX3_belongingTo_0 ++ dktX3_belongingTo_1
theorem dksX3_belongingTo_0 : cX3_belongingTo.data.toList.drop 0 = dktX3_belongingTo_0 := by decide +kernel
theorem dksX3_belongingTo_1 : cX3_belongingTo.data.toList.drop 24 = dktX3_belongingTo_1 := dk_seg dksX3_belongingTo_0 24 rfl rfl
theorem dksX3_belongingTo_2 : cX3_belongingTo.data.toList.drop 48 = dktX3_belongingTo_2 := dk_seg dksX3_belongingTo_1 24 rfl rfl
theorem dksX3_belongingTo_3 : cX3_belongingTo.data.toList.drop 71 = dktX3_belongingTo_3 := dk_seg dksX3_belongingTo_2 23 rfl rfl
theorem dksX3_belongingTo_4 : cX3_belongingTo.data.toList.drop 95 = dktX3_belongingTo_4 := dk_seg dksX3_belongingTo_3 24 rfl rfl
theorem dX3_belongingTo_0 : decode cX3_belongingTo 0 = .ok (.iconst 0, 1) := dk_3 (dk_at dksX3_belongingTo_0 0 rfl rfl)
theorem dX3_belongingTo_1 : decode cX3_belongingTo 1 = .ok (.istore_n 3, 1) := dk_62 (dk_at dksX3_belongingTo_0 1 rfl rfl)
theorem dX3_belongingTo_2 : decode cX3_belongingTo 2 = .ok (.aload_n 0, 1) := dk_42 (dk_at dksX3_belongingTo_0 2 rfl rfl)
theorem dX3_belongingTo_3 : decode cX3_belongingTo 3 = .ok (.getfield 12, 3) := dk_180 0 12 (dk_at dksX3_belongingTo_0 3 rfl rfl)
theorem dX3_belongingTo_6 : decode cX3_belongingTo 6 = .ok (.invokeinterface 18 1, 5) := by decide +kernel
theorem dX3_belongingTo_11 : decode cX3_belongingTo 11 = .ok (.iconst 1, 1) := dk_4 (dk_at dksX3_belongingTo_0 11 rfl rfl)
theorem dX3_belongingTo_12 : decode cX3_belongingTo 12 = .ok (.isub, 1) := dk_100 (dk_at dksX3_belongingTo_0 12 rfl rfl)
theorem dX3_belongingTo_13 : decode cX3_belongingTo 13 = .ok (.istore 4, 2) := dk_54 4 (dk_at dksX3_belongingTo_0 13 rfl rfl)
theorem dX3_belongingTo_15 : decode cX3_belongingTo 15 = .ok (.iload 4, 2) := dk_21 4 (dk_at dksX3_belongingTo_0 15 rfl rfl)
theorem dX3_belongingTo_17 : decode cX3_belongingTo 17 = .ok (.ifCond .lt 81, 3) := dk_155 0 81 (dk_at dksX3_belongingTo_0 17 rfl rfl)
theorem dX3_belongingTo_20 : decode cX3_belongingTo 20 = .ok (.iload_n 2, 1) := dk_28 (dk_at dksX3_belongingTo_0 20 rfl rfl)
theorem dX3_belongingTo_21 : decode cX3_belongingTo 21 = .ok (.iload 4, 2) := dk_21 4 (dk_at dksX3_belongingTo_0 21 rfl rfl)
theorem dX3_belongingTo_23 : decode cX3_belongingTo 23 = .ok (.ishr, 1) := dk_122 (dk_at dksX3_belongingTo_0 23 rfl rfl)
theorem dX3_belongingTo_24 : decode cX3_belongingTo 24 = .ok (.iconst 1, 1) := dk_4 (dk_at dksX3_belongingTo_1 0 rfl rfl)
theorem dX3_belongingTo_25 : decode cX3_belongingTo 25 = .ok (.iand, 1) := dk_126 (dk_at dksX3_belongingTo_1 1 rfl rfl)
theorem dX3_belongingTo_26 : decode cX3_belongingTo 26 = .ok (.iconst 1, 1) := dk_4 (dk_at dksX3_belongingTo_1 2 rfl rfl)
theorem dX3_belongingTo_27 : decode cX3_belongingTo 27 = .ok (.if_icmp .ne 24, 3) := dk_160 0 24 (dk_at dksX3_belongingTo_1 3 rfl rfl)
theorem dX3_belongingTo_30 : decode cX3_belongingTo 30 = .ok (.aload_n 0, 1) := dk_42 (dk_at dksX3_belongingTo_1 6 rfl rfl)
theorem dX3_belongingTo_31 : decode cX3_belongingTo 31 = .ok (.getfield 12, 3) := dk_180 0 12 (dk_at dksX3_belongingTo_1 7 rfl rfl)
theorem dX3_belongingTo_34 : decode cX3_belongingTo 34 = .ok (.iload 4, 2) := dk_21 4 (dk_at dksX3_belongingTo_1 10 rfl rfl)
theorem dX3_belongingTo_36 : decode cX3_belongingTo 36 = .ok (.invokeinterface 24 2, 5) := by decide +kernel
theorem dX3_belongingTo_41 : decode cX3_belongingTo 41 = .ok (.checkcast 28, 3) := dk_192 0 28 (dk_at dksX3_belongingTo_1 17 rfl rfl)
theorem dX3_belongingTo_44 : decode cX3_belongingTo 44 = .ok (.iload_n 1, 1) := dk_27 (dk_at dksX3_belongingTo_1 20 rfl rfl)
theorem dX3_belongingTo_45 : decode cX3_belongingTo 45 = .ok (.invokevirtual 30, 3) := dk_182 0 30 (dk_at dksX3_belongingTo_1 21 rfl rfl)
theorem dX3_belongingTo_48 : decode cX3_belongingTo 48 = .ok (.goto 4, 3) := dk_167 0 4 (dk_at dksX3_belongingTo_2 0 rfl rfl)
theorem dX3_belongingTo_51 : decode cX3_belongingTo 51 = .ok (.iconst 0, 1) := dk_3 (dk_at dksX3_belongingTo_2 3 rfl rfl)
theorem dX3_belongingTo_52 : decode cX3_belongingTo 52 = .ok (.istore 5, 2) := dk_54 5 (dk_at dksX3_belongingTo_2 4 rfl rfl)
theorem dX3_belongingTo_54 : decode cX3_belongingTo 54 = .ok (.iload 5, 2) := dk_21 5 (dk_at dksX3_belongingTo_2 6 rfl rfl)
theorem dX3_belongingTo_56 : decode cX3_belongingTo 56 = .ok (.iconst 1, 1) := dk_4 (dk_at dksX3_belongingTo_2 8 rfl rfl)
theorem dX3_belongingTo_57 : decode cX3_belongingTo 57 = .ok (.if_icmp .eq 9, 3) := dk_159 0 9 (dk_at dksX3_belongingTo_2 9 rfl rfl)
theorem dX3_belongingTo_60 : decode cX3_belongingTo 60 = .ok (.iload 5, 2) := dk_21 5 (dk_at dksX3_belongingTo_2 12 rfl rfl)
theorem dX3_belongingTo_62 : decode cX3_belongingTo 62 = .ok (.iconst 4, 1) := dk_7 (dk_at dksX3_belongingTo_2 14 rfl rfl)
theorem dX3_belongingTo_63 : decode cX3_belongingTo 63 = .ok (.if_icmp .ne 5, 3) := dk_160 0 5 (dk_at dksX3_belongingTo_2 15 rfl rfl)
theorem dX3_belongingTo_66 : decode cX3_belongingTo 66 = .ok (.iload_n 3, 1) := dk_29 (dk_at dksX3_belongingTo_2 18 rfl rfl)
theorem dX3_belongingTo_67 : decode cX3_belongingTo 67 = .ok (.ireturn, 1) := dk_172 (dk_at dksX3_belongingTo_2 19 rfl rfl)
theorem dX3_belongingTo_68 : decode cX3_belongingTo 68 = .ok (.iload_n 3, 1) := dk_29 (dk_at dksX3_belongingTo_2 20 rfl rfl)
theorem dX3_belongingTo_69 : decode cX3_belongingTo 69 = .ok (.iload 5, 2) := dk_21 5 (dk_at dksX3_belongingTo_2 21 rfl rfl)
theorem dX3_belongingTo_71 : decode cX3_belongingTo 71 = .ok (.ifCond .ne 7, 3) := dk_154 0 7 (dk_at dksX3_belongingTo_3 0 rfl rfl)
theorem dX3_belongingTo_74 : decode cX3_belongingTo 74 = .ok (.iconst 0, 1) := dk_3 (dk_at dksX3_belongingTo_3 3 rfl rfl)
theorem dX3_belongingTo_75 : decode cX3_belongingTo 75 = .ok (.goto 7, 3) := dk_167 0 7 (dk_at dksX3_belongingTo_3 4 rfl rfl)
theorem dX3_belongingTo_78 : decode cX3_belongingTo 78 = .ok (.iconst 1, 1) := dk_4 (dk_at dksX3_belongingTo_3 7 rfl rfl)
theorem dX3_belongingTo_79 : decode cX3_belongingTo 79 = .ok (.iload 4, 2) := dk_21 4 (dk_at dksX3_belongingTo_3 8 rfl rfl)
theorem dX3_belongingTo_81 : decode cX3_belongingTo 81 = .ok (.ishl, 1) := dk_120 (dk_at dksX3_belongingTo_3 10 rfl rfl)
theorem dX3_belongingTo_82 : decode cX3_belongingTo 82 = .ok (.ior, 1) := dk_128 (dk_at dksX3_belongingTo_3 11 rfl rfl)
theorem dX3_belongingTo_83 : decode cX3_belongingTo 83 = .ok (.istore_n 3, 1) := dk_62 (dk_at dksX3_belongingTo_3 12 rfl rfl)
theorem dX3_belongingTo_84 : decode cX3_belongingTo 84 = .ok (.iload 5, 2) := dk_21 5 (dk_at dksX3_belongingTo_3 13 rfl rfl)
theorem dX3_belongingTo_86 : decode cX3_belongingTo 86 = .ok (.iconst 3, 1) := dk_6 (dk_at dksX3_belongingTo_3 15 rfl rfl)
theorem dX3_belongingTo_87 : decode cX3_belongingTo 87 = .ok (.if_icmp .ne 5, 3) := dk_160 0 5 (dk_at dksX3_belongingTo_3 16 rfl rfl)
theorem dX3_belongingTo_90 : decode cX3_belongingTo 90 = .ok (.iload_n 3, 1) := dk_29 (dk_at dksX3_belongingTo_3 19 rfl rfl)
theorem dX3_belongingTo_91 : decode cX3_belongingTo 91 = .ok (.ireturn, 1) := dk_172 (dk_at dksX3_belongingTo_3 20 rfl rfl)
theorem dX3_belongingTo_92 : decode cX3_belongingTo 92 = .ok (.iinc 4 (-1), 3) := dk_132 4 255 (dk_at dksX3_belongingTo_3 21 rfl rfl)
theorem dX3_belongingTo_95 : decode cX3_belongingTo 95 = .ok (.goto (-80), 3) := dk_167 255 176 (dk_at dksX3_belongingTo_4 0 rfl rfl)
theorem dX3_belongingTo_98 : decode cX3_belongingTo 98 = .ok (.iload_n 3, 1) := dk_29 (dk_at dksX3_belongingTo_4 3 rfl rfl)
theorem dX3_belongingTo_99 : decode cX3_belongingTo 99 = .ok (.ireturn, 1) := dk_172 (dk_at dksX3_belongingTo_4 4 rfl rfl)
theorem q91 : (Jvm.Cond.initialized "CrateDeck$Tree") ∈ lw_all := lw_g (lw_at lw_m1 6 rfl) rfl
theorem q175 : (Jvm.Cond.instantiable "CrateDeck$Tree" (1 : Nat)) ∈ lw_all := lw_g (lw_at lw_m1 90 rfl) rfl
theorem q177 : (Jvm.Cond.instanceMethod ({ cls := "CrateDeck$Tree", name := "<init>", desc := "()V" } : Jvm.MethodName)) ∈ lw_all := lw_g (lw_at lw_m1 92 rfl) rfl
theorem q178 : (Jvm.Cond.code ({ cls := "CrateDeck$Tree", name := "<init>", desc := "()V" } : Jvm.MethodName) prog_14_method_1_code (1 : Nat) (Option.none : Option Jvm.ClassFile.FieldType)) ∈ lw_all := lw_g (lw_at lw_m1 93 rfl) rfl
theorem q179 : (Jvm.Cond.methodLink "CrateDeck$Tree" (3 : Nat) ({ cls := "java/lang/Object", name := "<init>", desc := "()V" } : Jvm.MethodName)) ∈ lw_all := lw_g (lw_at lw_m1 94 rfl) rfl
theorem q180 : (Jvm.Cond.classLink "CrateDeck$Tree" (9 : Nat) "java/util/ArrayList") ∈ lw_all := lw_g (lw_at lw_m1 95 rfl) rfl
theorem q181 : (Jvm.Cond.methodLink "CrateDeck$Tree" (11 : Nat) ({ cls := "java/util/ArrayList", name := "<init>", desc := "()V" } : Jvm.MethodName)) ∈ lw_all := lw_g (lw_at lw_m1 96 rfl) rfl
theorem q182 : (Jvm.Cond.fieldLink "CrateDeck$Tree" (12 : Nat) "CrateDeck$Tree" "layers" "Ljava/util/List;") ∈ lw_all := lw_g (lw_at lw_m1 97 rfl) rfl
theorem q184 : (Jvm.Cond.laysFinal "CrateDeck$Tree" "CrateDeck$Tree" "layers" "Ljava/util/List;") ∈ lw_all := lw_g (lw_at lw_m1 99 rfl) rfl
theorem q185 : (Jvm.Cond.soleField "CrateDeck$Tree" "layers") ∈ lw_all := lw_g (lw_at lw_m1 100 rfl) rfl
theorem q186 : (Jvm.Cond.superclass "CrateDeck$Tree" "java/lang/Object") ∈ lw_all := lw_g (lw_at lw_m1 101 rfl) rfl
theorem q252 : (Jvm.Cond.selects "CrateDeck$Tree" ({ cls := "java/lang/Object", name := "getClass", desc := "()Ljava/lang/Class;" } : Jvm.MethodName) ({ cls := "java/lang/Object", name := "getClass", desc := "()Ljava/lang/Class;" } : Jvm.MethodName)) ∈ lw_all := lw_g (lw_at lw_m1 167 rfl) rfl
theorem q787 : (Jvm.Cond.instanceMethod ({ cls := "CrateDeck$Tree", name := "shows", desc := "(I)I" } : Jvm.MethodName)) ∈ lw_all := lw_g (lw_at lw_m3 222 rfl) rfl
theorem q788 : (Jvm.Cond.selects "CrateDeck$Tree" ({ cls := "CrateDeck$Tree", name := "shows", desc := "(I)I" } : Jvm.MethodName) ({ cls := "CrateDeck$Tree", name := "shows", desc := "(I)I" } : Jvm.MethodName)) ∈ lw_all := lw_g (lw_at lw_m3 223 rfl) rfl
theorem q789 : (Jvm.Cond.code ({ cls := "CrateDeck$Tree", name := "shows", desc := "(I)I" } : Jvm.MethodName) prog_14_method_4_code (5 : Nat) (Option.some Jvm.ClassFile.FieldType.int)) ∈ lw_all := lw_g (lw_at lw_m3 224 rfl) rfl
theorem q790 : (Jvm.Cond.methodLink "CrateDeck$Tree" (38 : Nat) ({ cls := "CrateDeck$Tree", name := "around", desc := "(I)I" } : Jvm.MethodName)) ∈ lw_all := lw_g (lw_at lw_m3 225 rfl) rfl
theorem q791 : (Jvm.Cond.privateMethod ({ cls := "CrateDeck$Tree", name := "around", desc := "(I)I" } : Jvm.MethodName)) ∈ lw_tbl := lw_at lw_m3 226 rfl
theorem q792 : (Jvm.Cond.instanceMethod ({ cls := "CrateDeck$Tree", name := "around", desc := "(I)I" } : Jvm.MethodName)) ∈ lw_all := lw_g (lw_at lw_m3 227 rfl) rfl
theorem q793 : (Jvm.Cond.code ({ cls := "CrateDeck$Tree", name := "around", desc := "(I)I" } : Jvm.MethodName) prog_14_method_3_code (3 : Nat) (Option.some Jvm.ClassFile.FieldType.int)) ∈ lw_all := lw_g (lw_at lw_m3 228 rfl) rfl
theorem q794 : (Jvm.Cond.interfaceEntry "CrateDeck$Tree" (18 : Nat)) ∈ lw_tbl := lw_at lw_m3 229 rfl
theorem q795 : (Jvm.Cond.methodLink "CrateDeck$Tree" (18 : Nat) ({ cls := "java/util/List", name := "size", desc := "()I" } : Jvm.MethodName)) ∈ lw_all := lw_g (lw_at lw_m3 230 rfl) rfl
theorem q796 : (Jvm.Cond.methodLink "CrateDeck$Tree" (34 : Nat) ({ cls := "CrateDeck$Tree", name := "belongingTo", desc := "(II)I" } : Jvm.MethodName)) ∈ lw_all := lw_g (lw_at lw_m3 231 rfl) rfl
theorem q797 : (Jvm.Cond.privateMethod ({ cls := "CrateDeck$Tree", name := "belongingTo", desc := "(II)I" } : Jvm.MethodName)) ∈ lw_tbl := lw_at lw_m3 232 rfl
theorem q798 : (Jvm.Cond.instanceMethod ({ cls := "CrateDeck$Tree", name := "belongingTo", desc := "(II)I" } : Jvm.MethodName)) ∈ lw_all := lw_g (lw_at lw_m3 233 rfl) rfl
theorem q799 : (Jvm.Cond.code ({ cls := "CrateDeck$Tree", name := "belongingTo", desc := "(II)I" } : Jvm.MethodName) prog_14_method_2_code (6 : Nat) (Option.some Jvm.ClassFile.FieldType.int)) ∈ lw_all := lw_g (lw_at lw_m3 234 rfl) rfl
theorem q800 : (Jvm.Cond.interfaceEntry "CrateDeck$Tree" (24 : Nat)) ∈ lw_tbl := lw_at lw_m3 235 rfl
theorem q801 : (Jvm.Cond.methodLink "CrateDeck$Tree" (24 : Nat) ({ cls := "java/util/List", name := "get", desc := "(I)Ljava/lang/Object;" } : Jvm.MethodName)) ∈ lw_all := lw_g (lw_at lw_m3 236 rfl) rfl
theorem q802 : (Jvm.Cond.classLink "CrateDeck$Tree" (28 : Nat) "CrateDeck$Layer") ∈ lw_all := lw_g (lw_at lw_m3 237 rfl) rfl
theorem q803 : (Jvm.Cond.methodLink "CrateDeck$Tree" (30 : Nat) ({ cls := "CrateDeck$Layer", name := "kindAt", desc := "(I)I" } : Jvm.MethodName)) ∈ lw_all := lw_g (lw_at lw_m3 238 rfl) rfl
theorem q813 : (Jvm.Cond.methodLink "CrateDeck$Tree" (41 : Nat) ({ cls := "CrateDeck$Layer", name := "at", desc := "(I)LCrateDeck$Entry;" } : Jvm.MethodName)) ∈ lw_all := lw_g (lw_at lw_m4 8 rfl) rfl
theorem q814 : (Jvm.Cond.methodLink "CrateDeck$Tree" (45 : Nat) ({ cls := "CrateDeck$Entry", name := "content", desc := "()I" } : Jvm.MethodName)) ∈ lw_all := lw_g (lw_at lw_m4 9 rfl) rfl
theorem q970 : (Jvm.Cond.selects "CrateDeck$Tree" ({ cls := "java/lang/Object", name := "equals", desc := "(Ljava/lang/Object;)Z" } : Jvm.MethodName) ({ cls := "java/lang/Object", name := "equals", desc := "(Ljava/lang/Object;)Z" } : Jvm.MethodName)) ∈ lw_all := lw_g (lw_at lw_m4 165 rfl) rfl
theorem q2133 : (Jvm.Cond.castable "CrateDeck$Tree" "java/lang/Object") ∈ lw_tbl := lw_at lw_m9 128 rfl
theorem in_X3 : ∀ w ∈ wsX30, w ∈ lw_all := lw_in wsX30 [184] (by decide +kernel) (by decide +kernel)

/-! CrateDeck$Image -/
set_option maxRecDepth 100000
def RX4 : String := "CrateDeck$Image"
def TX4 : u_T := fun k => match k with
  | _ => ("CrateDeck$Image", "row", "Ljava/util/List;", true)
def tyX4 : Nat → FieldType := fun k => match k with
  | _ => .object "java/util/List"
abbrev wsX40 : List Cond := u_ws RX4 TX4 1
theorem nmX4 : ∀ a, a < 1 → ∀ b, b < 1 → a ≠ b → (TX4 a).2.1 ≠ (TX4 b).2.1 := by decide +kernel
theorem tyX4_ok : ∀ k, k < 1 → parseFieldDescriptor (TX4 k).2.2.1 = some (tyX4 k) := by decide +kernel
abbrev cX4_init : ByteArray := prog_7_method_1_code
def yX4_init : MethodName := ⟨RX4, "<init>", "()V"⟩
def dkwX4_init_0 : List UInt8 := [42, 183, 0, 1, 42, 187, 0, 7, 89, 183, 0, 9, 181, 0, 10, 177]
abbrev dktX4_init_0 : List UInt8 := dkwX4_init_0 ++ []
theorem dksX4_init_0 : cX4_init.data.toList.drop 0 = dktX4_init_0 := by decide +kernel
theorem dX4_init_0 : decode cX4_init 0 = .ok (.aload_n 0, 1) := dk_42 (dk_at dksX4_init_0 0 rfl rfl)
theorem dX4_init_1 : decode cX4_init 1 = .ok (.invokespecial 1, 3) := dk_183 0 1 (dk_at dksX4_init_0 1 rfl rfl)
theorem dX4_init_4 : decode cX4_init 4 = .ok (.aload_n 0, 1) := dk_42 (dk_at dksX4_init_0 4 rfl rfl)
theorem dX4_init_5 : decode cX4_init 5 = .ok (.new 7, 3) := dk_187 0 7 (dk_at dksX4_init_0 5 rfl rfl)
theorem dX4_init_8 : decode cX4_init 8 = .ok (.dup, 1) := dk_89 (dk_at dksX4_init_0 8 rfl rfl)
theorem dX4_init_9 : decode cX4_init 9 = .ok (.invokespecial 9, 3) := dk_183 0 9 (dk_at dksX4_init_0 9 rfl rfl)
theorem dX4_init_12 : decode cX4_init 12 = .ok (.putfield 10, 3) := dk_181 0 10 (dk_at dksX4_init_0 12 rfl rfl)
theorem dX4_init_15 : decode cX4_init 15 = .ok (.return_, 1) := dk_177 (dk_at dksX4_init_0 15 rfl rfl)
abbrev cX4_isAlike : ByteArray := prog_7_method_2_code
def yX4_isAlike : MethodName := ⟨RX4, "isAlike", "(Ljava/util/List;)Z"⟩
def dkwX4_isAlike_3 : List UInt8 := [160, 0, 7, 4, 167, 0, 4, 3, 61, 132, 3, 1, 167, 255, 198, 28, 172]
abbrev dktX4_isAlike_3 : List UInt8 := dkwX4_isAlike_3 ++ []
def dkwX4_isAlike_2 : List UInt8 := [185, 0, 22, 2, 0, 192, 0, 26, 182, 0, 28, 43, 29, 185, 0, 22, 2, 0, 192, 0, 26, 182, 0, 28]
abbrev dktX4_isAlike_2 : List UInt8 := dkwX4_isAlike_2 ++ dktX4_isAlike_3
def dkwX4_isAlike_1 : List UInt8 := [3, 62, 29, 42, 180, 0, 10, 185, 0, 16, 1, 0, 162, 0, 51, 28, 153, 0, 47, 42, 180, 0, 10, 29]
abbrev dktX4_isAlike_1 : List UInt8 := dkwX4_isAlike_1 ++ dktX4_isAlike_2
def dkwX4_isAlike_0 : List UInt8 := [42, 180, 0, 10, 185, 0, 16, 1, 0, 43, 185, 0, 16, 1, 0, 160, 0, 7, 4, 167, 0, 4, 3, 61]
abbrev dktX4_isAlike_0 : List UInt8 := dkwX4_isAlike_0 ++ dktX4_isAlike_1
theorem dksX4_isAlike_0 : cX4_isAlike.data.toList.drop 0 = dktX4_isAlike_0 := by decide +kernel
theorem dksX4_isAlike_1 : cX4_isAlike.data.toList.drop 24 = dktX4_isAlike_1 := dk_seg dksX4_isAlike_0 24 rfl rfl
theorem dksX4_isAlike_2 : cX4_isAlike.data.toList.drop 48 = dktX4_isAlike_2 := dk_seg dksX4_isAlike_1 24 rfl rfl
theorem dksX4_isAlike_3 : cX4_isAlike.data.toList.drop 72 = dktX4_isAlike_3 := dk_seg dksX4_isAlike_2 24 rfl rfl
theorem dX4_isAlike_0 : decode cX4_isAlike 0 = .ok (.aload_n 0, 1) := dk_42 (dk_at dksX4_isAlike_0 0 rfl rfl)
theorem dX4_isAlike_1 : decode cX4_isAlike 1 = .ok (.getfield 10, 3) := dk_180 0 10 (dk_at dksX4_isAlike_0 1 rfl rfl)
theorem dX4_isAlike_4 : decode cX4_isAlike 4 = .ok (.invokeinterface 16 1, 5) := by decide +kernel
theorem dX4_isAlike_9 : decode cX4_isAlike 9 = .ok (.aload_n 1, 1) := dk_43 (dk_at dksX4_isAlike_0 9 rfl rfl)
theorem dX4_isAlike_10 : decode cX4_isAlike 10 = .ok (.invokeinterface 16 1, 5) := by decide +kernel
theorem dX4_isAlike_15 : decode cX4_isAlike 15 = .ok (.if_icmp .ne 7, 3) := dk_160 0 7 (dk_at dksX4_isAlike_0 15 rfl rfl)
theorem dX4_isAlike_18 : decode cX4_isAlike 18 = .ok (.iconst 1, 1) := dk_4 (dk_at dksX4_isAlike_0 18 rfl rfl)
theorem dX4_isAlike_19 : decode cX4_isAlike 19 = .ok (.goto 4, 3) := dk_167 0 4 (dk_at dksX4_isAlike_0 19 rfl rfl)
theorem dX4_isAlike_22 : decode cX4_isAlike 22 = .ok (.iconst 0, 1) := dk_3 (dk_at dksX4_isAlike_0 22 rfl rfl)
theorem dX4_isAlike_23 : decode cX4_isAlike 23 = .ok (.istore_n 2, 1) := dk_61 (dk_at dksX4_isAlike_0 23 rfl rfl)
theorem dX4_isAlike_24 : decode cX4_isAlike 24 = .ok (.iconst 0, 1) := dk_3 (dk_at dksX4_isAlike_1 0 rfl rfl)
theorem dX4_isAlike_25 : decode cX4_isAlike 25 = .ok (.istore_n 3, 1) := dk_62 (dk_at dksX4_isAlike_1 1 rfl rfl)
theorem dX4_isAlike_26 : decode cX4_isAlike 26 = .ok (.iload_n 3, 1) := dk_29 (dk_at dksX4_isAlike_1 2 rfl rfl)
theorem dX4_isAlike_27 : decode cX4_isAlike 27 = .ok (.aload_n 0, 1) := dk_42 (dk_at dksX4_isAlike_1 3 rfl rfl)
theorem dX4_isAlike_28 : decode cX4_isAlike 28 = .ok (.getfield 10, 3) := dk_180 0 10 (dk_at dksX4_isAlike_1 4 rfl rfl)
theorem dX4_isAlike_31 : decode cX4_isAlike 31 = .ok (.invokeinterface 16 1, 5) := by decide +kernel
theorem dX4_isAlike_36 : decode cX4_isAlike 36 = .ok (.if_icmp .ge 51, 3) := dk_162 0 51 (dk_at dksX4_isAlike_1 12 rfl rfl)
theorem dX4_isAlike_39 : decode cX4_isAlike 39 = .ok (.iload_n 2, 1) := dk_28 (dk_at dksX4_isAlike_1 15 rfl rfl)
theorem dX4_isAlike_40 : decode cX4_isAlike 40 = .ok (.ifCond .eq 47, 3) := dk_153 0 47 (dk_at dksX4_isAlike_1 16 rfl rfl)
theorem dX4_isAlike_43 : decode cX4_isAlike 43 = .ok (.aload_n 0, 1) := dk_42 (dk_at dksX4_isAlike_1 19 rfl rfl)
theorem dX4_isAlike_44 : decode cX4_isAlike 44 = .ok (.getfield 10, 3) := dk_180 0 10 (dk_at dksX4_isAlike_1 20 rfl rfl)
theorem dX4_isAlike_47 : decode cX4_isAlike 47 = .ok (.iload_n 3, 1) := dk_29 (dk_at dksX4_isAlike_1 23 rfl rfl)
theorem dX4_isAlike_48 : decode cX4_isAlike 48 = .ok (.invokeinterface 22 2, 5) := by decide +kernel
theorem dX4_isAlike_53 : decode cX4_isAlike 53 = .ok (.checkcast 26, 3) := dk_192 0 26 (dk_at dksX4_isAlike_2 5 rfl rfl)
theorem dX4_isAlike_56 : decode cX4_isAlike 56 = .ok (.invokevirtual 28, 3) := dk_182 0 28 (dk_at dksX4_isAlike_2 8 rfl rfl)
theorem dX4_isAlike_59 : decode cX4_isAlike 59 = .ok (.aload_n 1, 1) := dk_43 (dk_at dksX4_isAlike_2 11 rfl rfl)
theorem dX4_isAlike_60 : decode cX4_isAlike 60 = .ok (.iload_n 3, 1) := dk_29 (dk_at dksX4_isAlike_2 12 rfl rfl)
theorem dX4_isAlike_61 : decode cX4_isAlike 61 = .ok (.invokeinterface 22 2, 5) := by decide +kernel
theorem dX4_isAlike_66 : decode cX4_isAlike 66 = .ok (.checkcast 26, 3) := dk_192 0 26 (dk_at dksX4_isAlike_2 18 rfl rfl)
theorem dX4_isAlike_69 : decode cX4_isAlike 69 = .ok (.invokevirtual 28, 3) := dk_182 0 28 (dk_at dksX4_isAlike_2 21 rfl rfl)
theorem dX4_isAlike_72 : decode cX4_isAlike 72 = .ok (.if_icmp .ne 7, 3) := dk_160 0 7 (dk_at dksX4_isAlike_3 0 rfl rfl)
theorem dX4_isAlike_75 : decode cX4_isAlike 75 = .ok (.iconst 1, 1) := dk_4 (dk_at dksX4_isAlike_3 3 rfl rfl)
theorem dX4_isAlike_76 : decode cX4_isAlike 76 = .ok (.goto 4, 3) := dk_167 0 4 (dk_at dksX4_isAlike_3 4 rfl rfl)
theorem dX4_isAlike_79 : decode cX4_isAlike 79 = .ok (.iconst 0, 1) := dk_3 (dk_at dksX4_isAlike_3 7 rfl rfl)
theorem dX4_isAlike_80 : decode cX4_isAlike 80 = .ok (.istore_n 2, 1) := dk_61 (dk_at dksX4_isAlike_3 8 rfl rfl)
theorem dX4_isAlike_81 : decode cX4_isAlike 81 = .ok (.iinc 3 1, 3) := dk_132 3 1 (dk_at dksX4_isAlike_3 9 rfl rfl)
theorem dX4_isAlike_84 : decode cX4_isAlike 84 = .ok (.goto (-58), 3) := dk_167 255 198 (dk_at dksX4_isAlike_3 12 rfl rfl)
theorem dX4_isAlike_87 : decode cX4_isAlike 87 = .ok (.iload_n 2, 1) := dk_28 (dk_at dksX4_isAlike_3 15 rfl rfl)
theorem dX4_isAlike_88 : decode cX4_isAlike 88 = .ok (.ireturn, 1) := dk_172 (dk_at dksX4_isAlike_3 16 rfl rfl)
theorem q92 : (Jvm.Cond.initialized "CrateDeck$Image") ∈ lw_all := lw_g (lw_at lw_m1 7 rfl) rfl
theorem q189 : (Jvm.Cond.instantiable "CrateDeck$Image" (1 : Nat)) ∈ lw_all := lw_g (lw_at lw_m1 104 rfl) rfl
theorem q191 : (Jvm.Cond.instanceMethod ({ cls := "CrateDeck$Image", name := "<init>", desc := "()V" } : Jvm.MethodName)) ∈ lw_all := lw_g (lw_at lw_m1 106 rfl) rfl
theorem q192 : (Jvm.Cond.code ({ cls := "CrateDeck$Image", name := "<init>", desc := "()V" } : Jvm.MethodName) prog_7_method_1_code (1 : Nat) (Option.none : Option Jvm.ClassFile.FieldType)) ∈ lw_all := lw_g (lw_at lw_m1 107 rfl) rfl
theorem q193 : (Jvm.Cond.methodLink "CrateDeck$Image" (1 : Nat) ({ cls := "java/lang/Object", name := "<init>", desc := "()V" } : Jvm.MethodName)) ∈ lw_all := lw_g (lw_at lw_m1 108 rfl) rfl
theorem q194 : (Jvm.Cond.classLink "CrateDeck$Image" (7 : Nat) "java/util/ArrayList") ∈ lw_all := lw_g (lw_at lw_m1 109 rfl) rfl
theorem q195 : (Jvm.Cond.methodLink "CrateDeck$Image" (9 : Nat) ({ cls := "java/util/ArrayList", name := "<init>", desc := "()V" } : Jvm.MethodName)) ∈ lw_all := lw_g (lw_at lw_m1 110 rfl) rfl
theorem q196 : (Jvm.Cond.fieldLink "CrateDeck$Image" (10 : Nat) "CrateDeck$Image" "row" "Ljava/util/List;") ∈ lw_all := lw_g (lw_at lw_m1 111 rfl) rfl
theorem q198 : (Jvm.Cond.laysFinal "CrateDeck$Image" "CrateDeck$Image" "row" "Ljava/util/List;") ∈ lw_all := lw_g (lw_at lw_m1 113 rfl) rfl
theorem q199 : (Jvm.Cond.soleField "CrateDeck$Image" "row") ∈ lw_all := lw_g (lw_at lw_m1 114 rfl) rfl
theorem q200 : (Jvm.Cond.superclass "CrateDeck$Image" "java/lang/Object") ∈ lw_all := lw_g (lw_at lw_m1 115 rfl) rfl
theorem q245 : (Jvm.Cond.selects "CrateDeck$Image" ({ cls := "java/lang/Object", name := "getClass", desc := "()Ljava/lang/Class;" } : Jvm.MethodName) ({ cls := "java/lang/Object", name := "getClass", desc := "()Ljava/lang/Class;" } : Jvm.MethodName)) ∈ lw_all := lw_g (lw_at lw_m1 160 rfl) rfl
theorem q764 : (Jvm.Cond.instanceMethod ({ cls := "CrateDeck$Image", name := "isAlike", desc := "(Ljava/util/List;)Z" } : Jvm.MethodName)) ∈ lw_all := lw_g (lw_at lw_m3 199 rfl) rfl
theorem q765 : (Jvm.Cond.selects "CrateDeck$Image" ({ cls := "CrateDeck$Image", name := "isAlike", desc := "(Ljava/util/List;)Z" } : Jvm.MethodName) ({ cls := "CrateDeck$Image", name := "isAlike", desc := "(Ljava/util/List;)Z" } : Jvm.MethodName)) ∈ lw_all := lw_g (lw_at lw_m3 200 rfl) rfl
theorem q766 : (Jvm.Cond.code ({ cls := "CrateDeck$Image", name := "isAlike", desc := "(Ljava/util/List;)Z" } : Jvm.MethodName) prog_7_method_2_code (4 : Nat) (Option.some Jvm.ClassFile.FieldType.boolean)) ∈ lw_all := lw_g (lw_at lw_m3 201 rfl) rfl
theorem q767 : (Jvm.Cond.interfaceEntry "CrateDeck$Image" (16 : Nat)) ∈ lw_tbl := lw_at lw_m3 202 rfl
theorem q768 : (Jvm.Cond.methodLink "CrateDeck$Image" (16 : Nat) ({ cls := "java/util/List", name := "size", desc := "()I" } : Jvm.MethodName)) ∈ lw_all := lw_g (lw_at lw_m3 203 rfl) rfl
theorem q769 : (Jvm.Cond.interfaceEntry "CrateDeck$Image" (22 : Nat)) ∈ lw_tbl := lw_at lw_m3 204 rfl
theorem q770 : (Jvm.Cond.methodLink "CrateDeck$Image" (22 : Nat) ({ cls := "java/util/List", name := "get", desc := "(I)Ljava/lang/Object;" } : Jvm.MethodName)) ∈ lw_all := lw_g (lw_at lw_m3 205 rfl) rfl
theorem q771 : (Jvm.Cond.classLink "CrateDeck$Image" (26 : Nat) "java/lang/Integer") ∈ lw_all := lw_g (lw_at lw_m3 206 rfl) rfl
theorem q772 : (Jvm.Cond.methodLink "CrateDeck$Image" (28 : Nat) ({ cls := "java/lang/Integer", name := "intValue", desc := "()I" } : Jvm.MethodName)) ∈ lw_all := lw_g (lw_at lw_m3 207 rfl) rfl
theorem q957 : (Jvm.Cond.selects "CrateDeck$Image" ({ cls := "java/lang/Object", name := "equals", desc := "(Ljava/lang/Object;)Z" } : Jvm.MethodName) ({ cls := "java/lang/Object", name := "equals", desc := "(Ljava/lang/Object;)Z" } : Jvm.MethodName)) ∈ lw_all := lw_g (lw_at lw_m4 152 rfl) rfl
theorem q2134 : (Jvm.Cond.castable "CrateDeck$Image" "java/lang/Object") ∈ lw_tbl := lw_at lw_m9 129 rfl
theorem in_X4 : ∀ w ∈ wsX40, w ∈ lw_all := lw_in wsX40 [198] (by decide +kernel) (by decide +kernel)

/-! CrateDeck$User -/
set_option maxRecDepth 100000
def RX5 : String := "CrateDeck$User"
def TX5 : u_T := fun k => match k with
  | 0 => ("CrateDeck$User", "parent", "I", true)
  | _ => ("CrateDeck$User", "ranges", "Ljava/util/List;", true)
def tyX5 : Nat → FieldType := fun k => match k with
  | 0 => .int
  | _ => .object "java/util/List"
abbrev wsX50 : List Cond := u_ws RX5 TX5 2
theorem nmX5 : ∀ a, a < 2 → ∀ b, b < 2 → a ≠ b → (TX5 a).2.1 ≠ (TX5 b).2.1 := by decide +kernel
theorem tyX5_ok : ∀ k, k < 2 → parseFieldDescriptor (TX5 k).2.2.1 = some (tyX5 k) := by decide +kernel
abbrev cX5_init : ByteArray := prog_15_method_1_code
def yX5_init : MethodName := ⟨RX5, "<init>", "(I)V"⟩
def dkwX5_init_0 : List UInt8 := [42, 183, 0, 3, 42, 187, 0, 9, 89, 183, 0, 11, 181, 0, 12, 42, 27, 181, 0, 18, 177]
abbrev dktX5_init_0 : List UInt8 := dkwX5_init_0 ++ []
theorem dksX5_init_0 : cX5_init.data.toList.drop 0 = dktX5_init_0 := by decide +kernel
theorem dX5_init_0 : decode cX5_init 0 = .ok (.aload_n 0, 1) := dk_42 (dk_at dksX5_init_0 0 rfl rfl)
theorem dX5_init_1 : decode cX5_init 1 = .ok (.invokespecial 3, 3) := dk_183 0 3 (dk_at dksX5_init_0 1 rfl rfl)
theorem dX5_init_4 : decode cX5_init 4 = .ok (.aload_n 0, 1) := dk_42 (dk_at dksX5_init_0 4 rfl rfl)
theorem dX5_init_5 : decode cX5_init 5 = .ok (.new 9, 3) := dk_187 0 9 (dk_at dksX5_init_0 5 rfl rfl)
theorem dX5_init_8 : decode cX5_init 8 = .ok (.dup, 1) := dk_89 (dk_at dksX5_init_0 8 rfl rfl)
theorem dX5_init_9 : decode cX5_init 9 = .ok (.invokespecial 11, 3) := dk_183 0 11 (dk_at dksX5_init_0 9 rfl rfl)
theorem dX5_init_12 : decode cX5_init 12 = .ok (.putfield 12, 3) := dk_181 0 12 (dk_at dksX5_init_0 12 rfl rfl)
theorem dX5_init_15 : decode cX5_init 15 = .ok (.aload_n 0, 1) := dk_42 (dk_at dksX5_init_0 15 rfl rfl)
theorem dX5_init_16 : decode cX5_init 16 = .ok (.iload_n 1, 1) := dk_27 (dk_at dksX5_init_0 16 rfl rfl)
theorem dX5_init_17 : decode cX5_init 17 = .ok (.putfield 18, 3) := dk_181 0 18 (dk_at dksX5_init_0 17 rfl rfl)
theorem dX5_init_20 : decode cX5_init 20 = .ok (.return_, 1) := dk_177 (dk_at dksX5_init_0 20 rfl rfl)
abbrev cX5_outside : ByteArray := prog_15_method_2_code
def yX5_outside : MethodName := ⟨RX5, "outside", "(I)I"⟩
def dkwX5_outside_3 : List UInt8 := [167, 255, 193, 2, 172]
abbrev dktX5_outside_3 : List UInt8 := dkwX5_outside_3 ++ []
def dkwX5_outside_2 : List UInt8 := [182, 0, 37, 96, 162, 0, 15, 45, 182, 0, 40, 27, 96, 45, 182, 0, 34, 100, 172, 132, 2, 1]
abbrev dktX5_outside_2 : List UInt8 := dkwX5_outside_2 ++ dktX5_outside_3
def dkwX5_outside_1 : List UInt8 := [185, 0, 28, 2, 0, 192, 0, 32, 78, 27, 45, 182, 0, 34, 161, 0, 28, 27, 45, 182, 0, 34, 45]
abbrev dktX5_outside_1 : List UInt8 := dkwX5_outside_1 ++ dktX5_outside_2
def dkwX5_outside_0 : List UInt8 := [3, 61, 28, 42, 180, 0, 12, 185, 0, 22, 1, 0, 162, 0, 56, 42, 180, 0, 12, 28]
abbrev dktX5_outside_0 : List UInt8 := dkwX5_outside_0 ++ dktX5_outside_1
theorem dksX5_outside_0 : cX5_outside.data.toList.drop 0 = dktX5_outside_0 := by decide +kernel
theorem dksX5_outside_1 : cX5_outside.data.toList.drop 20 = dktX5_outside_1 := dk_seg dksX5_outside_0 20 rfl rfl
theorem dksX5_outside_2 : cX5_outside.data.toList.drop 43 = dktX5_outside_2 := dk_seg dksX5_outside_1 23 rfl rfl
theorem dksX5_outside_3 : cX5_outside.data.toList.drop 65 = dktX5_outside_3 := dk_seg dksX5_outside_2 22 rfl rfl
theorem dX5_outside_0 : decode cX5_outside 0 = .ok (.iconst 0, 1) := dk_3 (dk_at dksX5_outside_0 0 rfl rfl)
theorem dX5_outside_1 : decode cX5_outside 1 = .ok (.istore_n 2, 1) := dk_61 (dk_at dksX5_outside_0 1 rfl rfl)
theorem dX5_outside_2 : decode cX5_outside 2 = .ok (.iload_n 2, 1) := dk_28 (dk_at dksX5_outside_0 2 rfl rfl)
theorem dX5_outside_3 : decode cX5_outside 3 = .ok (.aload_n 0, 1) := dk_42 (dk_at dksX5_outside_0 3 rfl rfl)
theorem dX5_outside_4 : decode cX5_outside 4 = .ok (.getfield 12, 3) := dk_180 0 12 (dk_at dksX5_outside_0 4 rfl rfl)
theorem dX5_outside_7 : decode cX5_outside 7 = .ok (.invokeinterface 22 1, 5) := by decide +kernel
theorem dX5_outside_12 : decode cX5_outside 12 = .ok (.if_icmp .ge 56, 3) := dk_162 0 56 (dk_at dksX5_outside_0 12 rfl rfl)
theorem dX5_outside_15 : decode cX5_outside 15 = .ok (.aload_n 0, 1) := dk_42 (dk_at dksX5_outside_0 15 rfl rfl)
theorem dX5_outside_16 : decode cX5_outside 16 = .ok (.getfield 12, 3) := dk_180 0 12 (dk_at dksX5_outside_0 16 rfl rfl)
theorem dX5_outside_19 : decode cX5_outside 19 = .ok (.iload_n 2, 1) := dk_28 (dk_at dksX5_outside_0 19 rfl rfl)
theorem dX5_outside_20 : decode cX5_outside 20 = .ok (.invokeinterface 28 2, 5) := by decide +kernel
theorem dX5_outside_25 : decode cX5_outside 25 = .ok (.checkcast 32, 3) := dk_192 0 32 (dk_at dksX5_outside_1 5 rfl rfl)
theorem dX5_outside_28 : decode cX5_outside 28 = .ok (.astore_n 3, 1) := dk_78 (dk_at dksX5_outside_1 8 rfl rfl)
theorem dX5_outside_29 : decode cX5_outside 29 = .ok (.iload_n 1, 1) := dk_27 (dk_at dksX5_outside_1 9 rfl rfl)
theorem dX5_outside_30 : decode cX5_outside 30 = .ok (.aload_n 3, 1) := dk_45 (dk_at dksX5_outside_1 10 rfl rfl)
theorem dX5_outside_31 : decode cX5_outside 31 = .ok (.invokevirtual 34, 3) := dk_182 0 34 (dk_at dksX5_outside_1 11 rfl rfl)
theorem dX5_outside_34 : decode cX5_outside 34 = .ok (.if_icmp .lt 28, 3) := dk_161 0 28 (dk_at dksX5_outside_1 14 rfl rfl)
theorem dX5_outside_37 : decode cX5_outside 37 = .ok (.iload_n 1, 1) := dk_27 (dk_at dksX5_outside_1 17 rfl rfl)
theorem dX5_outside_38 : decode cX5_outside 38 = .ok (.aload_n 3, 1) := dk_45 (dk_at dksX5_outside_1 18 rfl rfl)
theorem dX5_outside_39 : decode cX5_outside 39 = .ok (.invokevirtual 34, 3) := dk_182 0 34 (dk_at dksX5_outside_1 19 rfl rfl)
theorem dX5_outside_42 : decode cX5_outside 42 = .ok (.aload_n 3, 1) := dk_45 (dk_at dksX5_outside_1 22 rfl rfl)
theorem dX5_outside_43 : decode cX5_outside 43 = .ok (.invokevirtual 37, 3) := dk_182 0 37 (dk_at dksX5_outside_2 0 rfl rfl)
theorem dX5_outside_46 : decode cX5_outside 46 = .ok (.iadd, 1) := dk_96 (dk_at dksX5_outside_2 3 rfl rfl)
theorem dX5_outside_47 : decode cX5_outside 47 = .ok (.if_icmp .ge 15, 3) := dk_162 0 15 (dk_at dksX5_outside_2 4 rfl rfl)
theorem dX5_outside_50 : decode cX5_outside 50 = .ok (.aload_n 3, 1) := dk_45 (dk_at dksX5_outside_2 7 rfl rfl)
theorem dX5_outside_51 : decode cX5_outside 51 = .ok (.invokevirtual 40, 3) := dk_182 0 40 (dk_at dksX5_outside_2 8 rfl rfl)
theorem dX5_outside_54 : decode cX5_outside 54 = .ok (.iload_n 1, 1) := dk_27 (dk_at dksX5_outside_2 11 rfl rfl)
theorem dX5_outside_55 : decode cX5_outside 55 = .ok (.iadd, 1) := dk_96 (dk_at dksX5_outside_2 12 rfl rfl)
theorem dX5_outside_56 : decode cX5_outside 56 = .ok (.aload_n 3, 1) := dk_45 (dk_at dksX5_outside_2 13 rfl rfl)
theorem dX5_outside_57 : decode cX5_outside 57 = .ok (.invokevirtual 34, 3) := dk_182 0 34 (dk_at dksX5_outside_2 14 rfl rfl)
theorem dX5_outside_60 : decode cX5_outside 60 = .ok (.isub, 1) := dk_100 (dk_at dksX5_outside_2 17 rfl rfl)
theorem dX5_outside_61 : decode cX5_outside 61 = .ok (.ireturn, 1) := dk_172 (dk_at dksX5_outside_2 18 rfl rfl)
theorem dX5_outside_62 : decode cX5_outside 62 = .ok (.iinc 2 1, 3) := dk_132 2 1 (dk_at dksX5_outside_2 19 rfl rfl)
theorem dX5_outside_65 : decode cX5_outside 65 = .ok (.goto (-63), 3) := dk_167 255 193 (dk_at dksX5_outside_3 0 rfl rfl)
theorem dX5_outside_68 : decode cX5_outside 68 = .ok (.iconst (-1), 1) := dk_2 (dk_at dksX5_outside_3 3 rfl rfl)
theorem dX5_outside_69 : decode cX5_outside 69 = .ok (.ireturn, 1) := dk_172 (dk_at dksX5_outside_3 4 rfl rfl)
theorem q97 : (Jvm.Cond.initialized "CrateDeck$User") ∈ lw_all := lw_g (lw_at lw_m1 12 rfl) rfl
theorem q253 : (Jvm.Cond.selects "CrateDeck$User" ({ cls := "java/lang/Object", name := "getClass", desc := "()Ljava/lang/Class;" } : Jvm.MethodName) ({ cls := "java/lang/Object", name := "getClass", desc := "()Ljava/lang/Class;" } : Jvm.MethodName)) ∈ lw_all := lw_g (lw_at lw_m1 168 rfl) rfl
theorem q277 : (Jvm.Cond.instantiable "CrateDeck$User" (2 : Nat)) ∈ lw_all := lw_g (lw_at lw_m1 192 rfl) rfl
theorem q279 : (Jvm.Cond.instanceMethod ({ cls := "CrateDeck$User", name := "<init>", desc := "(I)V" } : Jvm.MethodName)) ∈ lw_all := lw_g (lw_at lw_m1 194 rfl) rfl
theorem q280 : (Jvm.Cond.code ({ cls := "CrateDeck$User", name := "<init>", desc := "(I)V" } : Jvm.MethodName) prog_15_method_1_code (2 : Nat) (Option.none : Option Jvm.ClassFile.FieldType)) ∈ lw_all := lw_g (lw_at lw_m1 195 rfl) rfl
theorem q281 : (Jvm.Cond.methodLink "CrateDeck$User" (3 : Nat) ({ cls := "java/lang/Object", name := "<init>", desc := "()V" } : Jvm.MethodName)) ∈ lw_all := lw_g (lw_at lw_m1 196 rfl) rfl
theorem q282 : (Jvm.Cond.classLink "CrateDeck$User" (9 : Nat) "java/util/ArrayList") ∈ lw_all := lw_g (lw_at lw_m1 197 rfl) rfl
theorem q283 : (Jvm.Cond.methodLink "CrateDeck$User" (11 : Nat) ({ cls := "java/util/ArrayList", name := "<init>", desc := "()V" } : Jvm.MethodName)) ∈ lw_all := lw_g (lw_at lw_m1 198 rfl) rfl
theorem q284 : (Jvm.Cond.fieldLink "CrateDeck$User" (18 : Nat) "CrateDeck$User" "parent" "I") ∈ lw_all := lw_g (lw_at lw_m1 199 rfl) rfl
theorem q286 : (Jvm.Cond.fieldLink "CrateDeck$User" (12 : Nat) "CrateDeck$User" "ranges" "Ljava/util/List;") ∈ lw_all := lw_g (lw_at lw_m1 201 rfl) rfl
theorem q288 : (Jvm.Cond.laysFinal "CrateDeck$User" "CrateDeck$User" "parent" "I") ∈ lw_all := lw_g (lw_at lw_m1 203 rfl) rfl
theorem q289 : (Jvm.Cond.soleField "CrateDeck$User" "parent") ∈ lw_all := lw_g (lw_at lw_m1 204 rfl) rfl
theorem q290 : (Jvm.Cond.laysFinal "CrateDeck$User" "CrateDeck$User" "ranges" "Ljava/util/List;") ∈ lw_all := lw_g (lw_at lw_m1 205 rfl) rfl
theorem q291 : (Jvm.Cond.soleField "CrateDeck$User" "ranges") ∈ lw_all := lw_g (lw_at lw_m1 206 rfl) rfl
theorem q292 : (Jvm.Cond.superclass "CrateDeck$User" "java/lang/Object") ∈ lw_all := lw_g (lw_at lw_m1 207 rfl) rfl
theorem q971 : (Jvm.Cond.selects "CrateDeck$User" ({ cls := "java/lang/Object", name := "equals", desc := "(Ljava/lang/Object;)Z" } : Jvm.MethodName) ({ cls := "java/lang/Object", name := "equals", desc := "(Ljava/lang/Object;)Z" } : Jvm.MethodName)) ∈ lw_all := lw_g (lw_at lw_m4 166 rfl) rfl
theorem q1159 : (Jvm.Cond.instanceMethod ({ cls := "CrateDeck$User", name := "outside", desc := "(I)I" } : Jvm.MethodName)) ∈ lw_all := lw_g (lw_at lw_m5 114 rfl) rfl
theorem q1160 : (Jvm.Cond.selects "CrateDeck$User" ({ cls := "CrateDeck$User", name := "outside", desc := "(I)I" } : Jvm.MethodName) ({ cls := "CrateDeck$User", name := "outside", desc := "(I)I" } : Jvm.MethodName)) ∈ lw_all := lw_g (lw_at lw_m5 115 rfl) rfl
theorem q1161 : (Jvm.Cond.code ({ cls := "CrateDeck$User", name := "outside", desc := "(I)I" } : Jvm.MethodName) prog_15_method_2_code (4 : Nat) (Option.some Jvm.ClassFile.FieldType.int)) ∈ lw_all := lw_g (lw_at lw_m5 116 rfl) rfl
theorem q1162 : (Jvm.Cond.interfaceEntry "CrateDeck$User" (22 : Nat)) ∈ lw_tbl := lw_at lw_m5 117 rfl
theorem q1163 : (Jvm.Cond.methodLink "CrateDeck$User" (22 : Nat) ({ cls := "java/util/List", name := "size", desc := "()I" } : Jvm.MethodName)) ∈ lw_all := lw_g (lw_at lw_m5 118 rfl) rfl
theorem q1164 : (Jvm.Cond.interfaceEntry "CrateDeck$User" (28 : Nat)) ∈ lw_tbl := lw_at lw_m5 119 rfl
theorem q1165 : (Jvm.Cond.methodLink "CrateDeck$User" (28 : Nat) ({ cls := "java/util/List", name := "get", desc := "(I)Ljava/lang/Object;" } : Jvm.MethodName)) ∈ lw_all := lw_g (lw_at lw_m5 120 rfl) rfl
theorem q1166 : (Jvm.Cond.classLink "CrateDeck$User" (32 : Nat) "CrateDeck$Range") ∈ lw_all := lw_g (lw_at lw_m5 121 rfl) rfl
theorem q1167 : (Jvm.Cond.methodLink "CrateDeck$User" (34 : Nat) ({ cls := "CrateDeck$Range", name := "inside", desc := "()I" } : Jvm.MethodName)) ∈ lw_all := lw_g (lw_at lw_m5 122 rfl) rfl
theorem q1171 : (Jvm.Cond.methodLink "CrateDeck$User" (37 : Nat) ({ cls := "CrateDeck$Range", name := "many", desc := "()I" } : Jvm.MethodName)) ∈ lw_all := lw_g (lw_at lw_m5 126 rfl) rfl
theorem q1175 : (Jvm.Cond.methodLink "CrateDeck$User" (40 : Nat) ({ cls := "CrateDeck$Range", name := "outside", desc := "()I" } : Jvm.MethodName)) ∈ lw_all := lw_g (lw_at lw_m5 130 rfl) rfl
theorem q2135 : (Jvm.Cond.castable "CrateDeck$User" "java/lang/Object") ∈ lw_tbl := lw_at lw_m9 130 rfl
theorem in_X5 : ∀ w ∈ wsX50, w ∈ lw_all := lw_in wsX50 [288, 290] (by decide +kernel) (by decide +kernel)

/-! CrateDeck$Group -/
set_option maxRecDepth 100000
def RX6 : String := "CrateDeck$Group"
def TX6 : u_T := fun k => match k with
  | 0 => ("CrateDeck$Group", "parent", "I", true)
  | 1 => ("CrateDeck$Group", "processes", "I", true)
  | 2 => ("CrateDeck$Group", "memory", "I", true)
  | _ => ("CrateDeck$Group", "shares", "I", true)
def tyX6 : Nat → FieldType := fun k => match k with
  | 0 => .int
  | 1 => .int
  | 2 => .int
  | _ => .int
abbrev wsX60 : List Cond := u_ws RX6 TX6 4
theorem nmX6 : ∀ a, a < 4 → ∀ b, b < 4 → a ≠ b → (TX6 a).2.1 ≠ (TX6 b).2.1 := by decide +kernel
theorem tyX6_ok : ∀ k, k < 4 → parseFieldDescriptor (TX6 k).2.2.1 = some (tyX6 k) := by decide +kernel
abbrev cX6_init : ByteArray := prog_6_method_1_code
def yX6_init : MethodName := ⟨RX6, "<init>", "(IIII)V"⟩
def dkwX6_init_1 : List UInt8 := [181, 0, 19, 177]
abbrev dktX6_init_1 : List UInt8 := dkwX6_init_1 ++ []
def dkwX6_init_0 : List UInt8 := [42, 183, 0, 1, 42, 27, 181, 0, 7, 42, 28, 181, 0, 13, 42, 29, 181, 0, 16, 42, 21, 4]
abbrev dktX6_init_0 : List UInt8 := dkwX6_init_0 ++ dktX6_init_1
theorem dksX6_init_0 : cX6_init.data.toList.drop 0 = dktX6_init_0 := by decide +kernel
theorem dksX6_init_1 : cX6_init.data.toList.drop 22 = dktX6_init_1 := dk_seg dksX6_init_0 22 rfl rfl
theorem dX6_init_0 : decode cX6_init 0 = .ok (.aload_n 0, 1) := dk_42 (dk_at dksX6_init_0 0 rfl rfl)
theorem dX6_init_1 : decode cX6_init 1 = .ok (.invokespecial 1, 3) := dk_183 0 1 (dk_at dksX6_init_0 1 rfl rfl)
theorem dX6_init_4 : decode cX6_init 4 = .ok (.aload_n 0, 1) := dk_42 (dk_at dksX6_init_0 4 rfl rfl)
theorem dX6_init_5 : decode cX6_init 5 = .ok (.iload_n 1, 1) := dk_27 (dk_at dksX6_init_0 5 rfl rfl)
theorem dX6_init_6 : decode cX6_init 6 = .ok (.putfield 7, 3) := dk_181 0 7 (dk_at dksX6_init_0 6 rfl rfl)
theorem dX6_init_9 : decode cX6_init 9 = .ok (.aload_n 0, 1) := dk_42 (dk_at dksX6_init_0 9 rfl rfl)
theorem dX6_init_10 : decode cX6_init 10 = .ok (.iload_n 2, 1) := dk_28 (dk_at dksX6_init_0 10 rfl rfl)
theorem dX6_init_11 : decode cX6_init 11 = .ok (.putfield 13, 3) := dk_181 0 13 (dk_at dksX6_init_0 11 rfl rfl)
theorem dX6_init_14 : decode cX6_init 14 = .ok (.aload_n 0, 1) := dk_42 (dk_at dksX6_init_0 14 rfl rfl)
theorem dX6_init_15 : decode cX6_init 15 = .ok (.iload_n 3, 1) := dk_29 (dk_at dksX6_init_0 15 rfl rfl)
theorem dX6_init_16 : decode cX6_init 16 = .ok (.putfield 16, 3) := dk_181 0 16 (dk_at dksX6_init_0 16 rfl rfl)
theorem dX6_init_19 : decode cX6_init 19 = .ok (.aload_n 0, 1) := dk_42 (dk_at dksX6_init_0 19 rfl rfl)
theorem dX6_init_20 : decode cX6_init 20 = .ok (.iload 4, 2) := dk_21 4 (dk_at dksX6_init_0 20 rfl rfl)
theorem dX6_init_22 : decode cX6_init 22 = .ok (.putfield 19, 3) := dk_181 0 19 (dk_at dksX6_init_1 0 rfl rfl)
theorem dX6_init_25 : decode cX6_init 25 = .ok (.return_, 1) := dk_177 (dk_at dksX6_init_1 3 rfl rfl)
theorem q98 : (Jvm.Cond.initialized "CrateDeck$Group") ∈ lw_all := lw_g (lw_at lw_m1 13 rfl) rfl
theorem q244 : (Jvm.Cond.selects "CrateDeck$Group" ({ cls := "java/lang/Object", name := "getClass", desc := "()Ljava/lang/Class;" } : Jvm.MethodName) ({ cls := "java/lang/Object", name := "getClass", desc := "()Ljava/lang/Class;" } : Jvm.MethodName)) ∈ lw_all := lw_g (lw_at lw_m1 159 rfl) rfl
theorem q294 : (Jvm.Cond.instantiable "CrateDeck$Group" (4 : Nat)) ∈ lw_all := lw_g (lw_at lw_m1 209 rfl) rfl
theorem q296 : (Jvm.Cond.instanceMethod ({ cls := "CrateDeck$Group", name := "<init>", desc := "(IIII)V" } : Jvm.MethodName)) ∈ lw_all := lw_g (lw_at lw_m1 211 rfl) rfl
theorem q297 : (Jvm.Cond.code ({ cls := "CrateDeck$Group", name := "<init>", desc := "(IIII)V" } : Jvm.MethodName) prog_6_method_1_code (5 : Nat) (Option.none : Option Jvm.ClassFile.FieldType)) ∈ lw_all := lw_g (lw_at lw_m1 212 rfl) rfl
theorem q298 : (Jvm.Cond.methodLink "CrateDeck$Group" (1 : Nat) ({ cls := "java/lang/Object", name := "<init>", desc := "()V" } : Jvm.MethodName)) ∈ lw_all := lw_g (lw_at lw_m1 213 rfl) rfl
theorem q299 : (Jvm.Cond.fieldLink "CrateDeck$Group" (7 : Nat) "CrateDeck$Group" "parent" "I") ∈ lw_all := lw_g (lw_at lw_m1 214 rfl) rfl
theorem q301 : (Jvm.Cond.fieldLink "CrateDeck$Group" (13 : Nat) "CrateDeck$Group" "processes" "I") ∈ lw_all := lw_g (lw_at lw_m1 216 rfl) rfl
theorem q303 : (Jvm.Cond.fieldLink "CrateDeck$Group" (16 : Nat) "CrateDeck$Group" "memory" "I") ∈ lw_all := lw_g (lw_at lw_m1 218 rfl) rfl
theorem q305 : (Jvm.Cond.fieldLink "CrateDeck$Group" (19 : Nat) "CrateDeck$Group" "shares" "I") ∈ lw_all := lw_g (lw_at lw_m1 220 rfl) rfl
theorem q307 : (Jvm.Cond.laysFinal "CrateDeck$Group" "CrateDeck$Group" "parent" "I") ∈ lw_all := lw_g (lw_at lw_m1 222 rfl) rfl
theorem q308 : (Jvm.Cond.soleField "CrateDeck$Group" "parent") ∈ lw_all := lw_g (lw_at lw_m1 223 rfl) rfl
theorem q309 : (Jvm.Cond.laysFinal "CrateDeck$Group" "CrateDeck$Group" "processes" "I") ∈ lw_all := lw_g (lw_at lw_m1 224 rfl) rfl
theorem q310 : (Jvm.Cond.soleField "CrateDeck$Group" "processes") ∈ lw_all := lw_g (lw_at lw_m1 225 rfl) rfl
theorem q311 : (Jvm.Cond.laysFinal "CrateDeck$Group" "CrateDeck$Group" "memory" "I") ∈ lw_all := lw_g (lw_at lw_m1 226 rfl) rfl
theorem q312 : (Jvm.Cond.soleField "CrateDeck$Group" "memory") ∈ lw_all := lw_g (lw_at lw_m1 227 rfl) rfl
theorem q313 : (Jvm.Cond.laysFinal "CrateDeck$Group" "CrateDeck$Group" "shares" "I") ∈ lw_all := lw_g (lw_at lw_m1 228 rfl) rfl
theorem q314 : (Jvm.Cond.soleField "CrateDeck$Group" "shares") ∈ lw_all := lw_g (lw_at lw_m1 229 rfl) rfl
theorem q315 : (Jvm.Cond.superclass "CrateDeck$Group" "java/lang/Object") ∈ lw_all := lw_g (lw_at lw_m1 230 rfl) rfl
theorem q956 : (Jvm.Cond.selects "CrateDeck$Group" ({ cls := "java/lang/Object", name := "equals", desc := "(Ljava/lang/Object;)Z" } : Jvm.MethodName) ({ cls := "java/lang/Object", name := "equals", desc := "(Ljava/lang/Object;)Z" } : Jvm.MethodName)) ∈ lw_all := lw_g (lw_at lw_m4 151 rfl) rfl
theorem q2136 : (Jvm.Cond.castable "CrateDeck$Group" "java/lang/Object") ∈ lw_tbl := lw_at lw_m9 131 rfl
theorem in_X6 : ∀ w ∈ wsX60, w ∈ lw_all := lw_in wsX60 [307, 309, 311, 313] (by decide +kernel) (by decide +kernel)

/-! CrateDeck$Entry -/
set_option maxRecDepth 100000
def RX8 : String := "CrateDeck$Entry"
def TX8 : u_T := fun k => match k with
  | 0 => ("CrateDeck$Entry", "path", "I", true)
  | 1 => ("CrateDeck$Entry", "kind", "I", true)
  | _ => ("CrateDeck$Entry", "content", "I", true)
def tyX8 : Nat → FieldType := fun k => match k with
  | 0 => .int
  | 1 => .int
  | _ => .int
abbrev wsX80 : List Cond := u_ws RX8 TX8 3
theorem nmX8 : ∀ a, a < 3 → ∀ b, b < 3 → a ≠ b → (TX8 a).2.1 ≠ (TX8 b).2.1 := by decide +kernel
theorem tyX8_ok : ∀ k, k < 3 → parseFieldDescriptor (TX8 k).2.2.1 = some (tyX8 k) := by decide +kernel
abbrev cX8_path : ByteArray := prog_3_method_5_code
def yX8_path : MethodName := ⟨RX8, "path", "()I"⟩
theorem dX8_path_0 : decode cX8_path 0 = .ok (.aload_n 0, 1) := by decide +kernel
theorem dX8_path_1 : decode cX8_path 1 = .ok (.getfield 7, 3) := by decide +kernel
theorem dX8_path_4 : decode cX8_path 4 = .ok (.ireturn, 1) := by decide +kernel
abbrev cX8_init : ByteArray := prog_3_method_1_code
def yX8_init : MethodName := ⟨RX8, "<init>", "(III)V"⟩
def dkwX8_init_0 : List UInt8 := [42, 183, 0, 1, 42, 27, 181, 0, 7, 42, 28, 181, 0, 13, 42, 29, 181, 0, 16, 177]
abbrev dktX8_init_0 : List UInt8 := dkwX8_init_0 ++ []
theorem dksX8_init_0 : cX8_init.data.toList.drop 0 = dktX8_init_0 := by decide +kernel
theorem dX8_init_0 : decode cX8_init 0 = .ok (.aload_n 0, 1) := dk_42 (dk_at dksX8_init_0 0 rfl rfl)
theorem dX8_init_1 : decode cX8_init 1 = .ok (.invokespecial 1, 3) := dk_183 0 1 (dk_at dksX8_init_0 1 rfl rfl)
theorem dX8_init_4 : decode cX8_init 4 = .ok (.aload_n 0, 1) := dk_42 (dk_at dksX8_init_0 4 rfl rfl)
theorem dX8_init_5 : decode cX8_init 5 = .ok (.iload_n 1, 1) := dk_27 (dk_at dksX8_init_0 5 rfl rfl)
theorem dX8_init_6 : decode cX8_init 6 = .ok (.putfield 7, 3) := dk_181 0 7 (dk_at dksX8_init_0 6 rfl rfl)
theorem dX8_init_9 : decode cX8_init 9 = .ok (.aload_n 0, 1) := dk_42 (dk_at dksX8_init_0 9 rfl rfl)
theorem dX8_init_10 : decode cX8_init 10 = .ok (.iload_n 2, 1) := dk_28 (dk_at dksX8_init_0 10 rfl rfl)
theorem dX8_init_11 : decode cX8_init 11 = .ok (.putfield 13, 3) := dk_181 0 13 (dk_at dksX8_init_0 11 rfl rfl)
theorem dX8_init_14 : decode cX8_init 14 = .ok (.aload_n 0, 1) := dk_42 (dk_at dksX8_init_0 14 rfl rfl)
theorem dX8_init_15 : decode cX8_init 15 = .ok (.iload_n 3, 1) := dk_29 (dk_at dksX8_init_0 15 rfl rfl)
theorem dX8_init_16 : decode cX8_init 16 = .ok (.putfield 16, 3) := dk_181 0 16 (dk_at dksX8_init_0 16 rfl rfl)
theorem dX8_init_19 : decode cX8_init 19 = .ok (.return_, 1) := dk_177 (dk_at dksX8_init_0 19 rfl rfl)
abbrev cX8_kind : ByteArray := prog_3_method_6_code
def yX8_kind : MethodName := ⟨RX8, "kind", "()I"⟩
theorem dX8_kind_0 : decode cX8_kind 0 = .ok (.aload_n 0, 1) := by decide +kernel
theorem dX8_kind_1 : decode cX8_kind 1 = .ok (.getfield 13, 3) := by decide +kernel
theorem dX8_kind_4 : decode cX8_kind 4 = .ok (.ireturn, 1) := by decide +kernel
abbrev cX8_content : ByteArray := prog_3_method_7_code
def yX8_content : MethodName := ⟨RX8, "content", "()I"⟩
theorem dX8_content_0 : decode cX8_content 0 = .ok (.aload_n 0, 1) := by decide +kernel
theorem dX8_content_1 : decode cX8_content 1 = .ok (.getfield 16, 3) := by decide +kernel
theorem dX8_content_4 : decode cX8_content 4 = .ok (.ireturn, 1) := by decide +kernel
abbrev cX8_equals : ByteArray := prog_3_method_4_code
def yX8_equals : MethodName := ⟨RX8, "equals", "(Ljava/lang/Object;)Z"⟩
def dkwX8_equals_0 : List UInt8 := [42, 43, 186, 0, 27, 0, 0, 172]
abbrev dktX8_equals_0 : List UInt8 := dkwX8_equals_0 ++ []
theorem dksX8_equals_0 : cX8_equals.data.toList.drop 0 = dktX8_equals_0 := by decide +kernel
theorem dX8_equals_0 : decode cX8_equals 0 = .ok (.aload_n 0, 1) := dk_42 (dk_at dksX8_equals_0 0 rfl rfl)
theorem dX8_equals_1 : decode cX8_equals 1 = .ok (.aload_n 1, 1) := dk_43 (dk_at dksX8_equals_0 1 rfl rfl)
theorem dX8_equals_2 : decode cX8_equals 2 = .ok (.invokedynamic 27, 5) := by decide +kernel
theorem dX8_equals_7 : decode cX8_equals 7 = .ok (.ireturn, 1) := dk_172 (dk_at dksX8_equals_0 7 rfl rfl)
theorem q108 : (Jvm.Cond.initialized "CrateDeck$Entry") ∈ lw_all := lw_g (lw_at lw_m1 23 rfl) rfl
theorem q241 : (Jvm.Cond.selects "CrateDeck$Entry" ({ cls := "java/lang/Object", name := "getClass", desc := "()Ljava/lang/Class;" } : Jvm.MethodName) ({ cls := "java/lang/Object", name := "getClass", desc := "()Ljava/lang/Class;" } : Jvm.MethodName)) ∈ lw_all := lw_g (lw_at lw_m1 156 rfl) rfl
theorem q534 : (Jvm.Cond.instanceMethod ({ cls := "CrateDeck$Entry", name := "path", desc := "()I" } : Jvm.MethodName)) ∈ lw_all := lw_g (lw_at lw_m2 209 rfl) rfl
theorem q535 : (Jvm.Cond.selects "CrateDeck$Entry" ({ cls := "CrateDeck$Entry", name := "path", desc := "()I" } : Jvm.MethodName) ({ cls := "CrateDeck$Entry", name := "path", desc := "()I" } : Jvm.MethodName)) ∈ lw_all := lw_g (lw_at lw_m2 210 rfl) rfl
theorem q536 : (Jvm.Cond.code ({ cls := "CrateDeck$Entry", name := "path", desc := "()I" } : Jvm.MethodName) prog_3_method_5_code (1 : Nat) (Option.some Jvm.ClassFile.FieldType.int)) ∈ lw_all := lw_g (lw_at lw_m2 211 rfl) rfl
theorem q577 : (Jvm.Cond.instantiable "CrateDeck$Entry" (3 : Nat)) ∈ lw_all := lw_g (lw_at lw_m3 12 rfl) rfl
theorem q579 : (Jvm.Cond.instanceMethod ({ cls := "CrateDeck$Entry", name := "<init>", desc := "(III)V" } : Jvm.MethodName)) ∈ lw_all := lw_g (lw_at lw_m3 14 rfl) rfl
theorem q580 : (Jvm.Cond.code ({ cls := "CrateDeck$Entry", name := "<init>", desc := "(III)V" } : Jvm.MethodName) prog_3_method_1_code (4 : Nat) (Option.none : Option Jvm.ClassFile.FieldType)) ∈ lw_all := lw_g (lw_at lw_m3 15 rfl) rfl
theorem q581 : (Jvm.Cond.methodLink "CrateDeck$Entry" (1 : Nat) ({ cls := "java/lang/Record", name := "<init>", desc := "()V" } : Jvm.MethodName)) ∈ lw_all := lw_g (lw_at lw_m3 16 rfl) rfl
theorem q585 : (Jvm.Cond.fieldLink "CrateDeck$Entry" (7 : Nat) "CrateDeck$Entry" "path" "I") ∈ lw_all := lw_g (lw_at lw_m3 20 rfl) rfl
theorem q586 : (Jvm.Cond.fieldLink "CrateDeck$Entry" (13 : Nat) "CrateDeck$Entry" "kind" "I") ∈ lw_all := lw_g (lw_at lw_m3 21 rfl) rfl
theorem q587 : (Jvm.Cond.fieldLink "CrateDeck$Entry" (16 : Nat) "CrateDeck$Entry" "content" "I") ∈ lw_all := lw_g (lw_at lw_m3 22 rfl) rfl
theorem q588 : (Jvm.Cond.laysFinal "CrateDeck$Entry" "CrateDeck$Entry" "path" "I") ∈ lw_all := lw_g (lw_at lw_m3 23 rfl) rfl
theorem q589 : (Jvm.Cond.soleField "CrateDeck$Entry" "path") ∈ lw_all := lw_g (lw_at lw_m3 24 rfl) rfl
theorem q590 : (Jvm.Cond.laysFinal "CrateDeck$Entry" "CrateDeck$Entry" "kind" "I") ∈ lw_all := lw_g (lw_at lw_m3 25 rfl) rfl
theorem q591 : (Jvm.Cond.soleField "CrateDeck$Entry" "kind") ∈ lw_all := lw_g (lw_at lw_m3 26 rfl) rfl
theorem q592 : (Jvm.Cond.laysFinal "CrateDeck$Entry" "CrateDeck$Entry" "content" "I") ∈ lw_all := lw_g (lw_at lw_m3 27 rfl) rfl
theorem q593 : (Jvm.Cond.soleField "CrateDeck$Entry" "content") ∈ lw_all := lw_g (lw_at lw_m3 28 rfl) rfl
theorem q594 : (Jvm.Cond.superclass "CrateDeck$Entry" "java/lang/Record") ∈ lw_all := lw_g (lw_at lw_m3 29 rfl) rfl
theorem q614 : (Jvm.Cond.instanceMethod ({ cls := "CrateDeck$Entry", name := "kind", desc := "()I" } : Jvm.MethodName)) ∈ lw_all := lw_g (lw_at lw_m3 49 rfl) rfl
theorem q615 : (Jvm.Cond.selects "CrateDeck$Entry" ({ cls := "CrateDeck$Entry", name := "kind", desc := "()I" } : Jvm.MethodName) ({ cls := "CrateDeck$Entry", name := "kind", desc := "()I" } : Jvm.MethodName)) ∈ lw_all := lw_g (lw_at lw_m3 50 rfl) rfl
theorem q616 : (Jvm.Cond.code ({ cls := "CrateDeck$Entry", name := "kind", desc := "()I" } : Jvm.MethodName) prog_3_method_6_code (1 : Nat) (Option.some Jvm.ClassFile.FieldType.int)) ∈ lw_all := lw_g (lw_at lw_m3 51 rfl) rfl
theorem q618 : (Jvm.Cond.instanceMethod ({ cls := "CrateDeck$Entry", name := "content", desc := "()I" } : Jvm.MethodName)) ∈ lw_all := lw_g (lw_at lw_m3 53 rfl) rfl
theorem q619 : (Jvm.Cond.selects "CrateDeck$Entry" ({ cls := "CrateDeck$Entry", name := "content", desc := "()I" } : Jvm.MethodName) ({ cls := "CrateDeck$Entry", name := "content", desc := "()I" } : Jvm.MethodName)) ∈ lw_all := lw_g (lw_at lw_m3 54 rfl) rfl
theorem q620 : (Jvm.Cond.code ({ cls := "CrateDeck$Entry", name := "content", desc := "()I" } : Jvm.MethodName) prog_3_method_7_code (1 : Nat) (Option.some Jvm.ClassFile.FieldType.int)) ∈ lw_all := lw_g (lw_at lw_m3 55 rfl) rfl
theorem q949 : (Jvm.Cond.selects "CrateDeck$Entry" ({ cls := "java/lang/Object", name := "equals", desc := "(Ljava/lang/Object;)Z" } : Jvm.MethodName) ({ cls := "CrateDeck$Entry", name := "equals", desc := "(Ljava/lang/Object;)Z" } : Jvm.MethodName)) ∈ lw_all := lw_g (lw_at lw_m4 144 rfl) rfl
theorem q950 : (Jvm.Cond.instanceMethod ({ cls := "CrateDeck$Entry", name := "equals", desc := "(Ljava/lang/Object;)Z" } : Jvm.MethodName)) ∈ lw_all := lw_g (lw_at lw_m4 145 rfl) rfl
theorem q951 : (Jvm.Cond.code ({ cls := "CrateDeck$Entry", name := "equals", desc := "(Ljava/lang/Object;)Z" } : Jvm.MethodName) prog_3_method_4_code (2 : Nat) (Option.some Jvm.ClassFile.FieldType.boolean)) ∈ lw_all := lw_g (lw_at lw_m4 146 rfl) rfl
theorem q2140 : (Jvm.Cond.castable "CrateDeck$Entry" "java/lang/Object") ∈ lw_tbl := lw_at lw_m9 135 rfl
theorem in_X8 : ∀ w ∈ wsX80, w ∈ lw_all := lw_in wsX80 [588, 590, 592] (by decide +kernel) (by decide +kernel)

/-! CrateDeck$Container -/
set_option maxRecDepth 100000
def RX9 : String := "CrateDeck$Container"
def TX9 : u_T := fun k => match k with
  | 0 => ("CrateDeck$Container", "number", "I", true)
  | 1 => ("CrateDeck$Container", "image", "I", true)
  | 2 => ("CrateDeck$Container", "name", "I", true)
  | 3 => ("CrateDeck$Container", "service", "I", true)
  | 4 => ("CrateDeck$Container", "isHealthy", "Z", false)
  | 5 => ("CrateDeck$Container", "own", "LCrateDeck$Layer;", true)
  | 6 => ("CrateDeck$Container", "tree", "LCrateDeck$Tree;", true)
  | 7 => ("CrateDeck$Container", "below", "LCrateDeck$Tree;", true)
  | 8 => ("CrateDeck$Container", "mounts", "Ljava/util/List;", true)
  | 9 => ("CrateDeck$Container", "addresses", "[I", true)
  | _ => ("CrateDeck$Container", "filters", "Ljava/util/List;", true)
def tyX9 : Nat → FieldType := fun k => match k with
  | 0 => .int
  | 1 => .int
  | 2 => .int
  | 3 => .int
  | 4 => .boolean
  | 5 => .object "CrateDeck$Layer"
  | 6 => .object "CrateDeck$Tree"
  | 7 => .object "CrateDeck$Tree"
  | 8 => .object "java/util/List"
  | 9 => .array .int
  | _ => .object "java/util/List"
abbrev wsX90 : List Cond := u_ws RX9 TX9 11
theorem nmX9 : ∀ a, a < 11 → ∀ b, b < 11 → a ≠ b → (TX9 a).2.1 ≠ (TX9 b).2.1 := by decide +kernel
theorem tyX9_ok : ∀ k, k < 11 → parseFieldDescriptor (TX9 k).2.2.1 = some (tyX9 k) := by decide +kernel
abbrev cX9_init : ByteArray := prog_2_method_1_code
def yX9_init : MethodName := ⟨RX9, "<init>", "(IIII)V"⟩
def dkwX9_init_4 : List UInt8 := [21, 5, 6, 162, 0, 17, 42, 180, 0, 39, 21, 5, 2, 79, 132, 5, 1, 167, 255, 239, 177]
abbrev dktX9_init_4 : List UInt8 := dkwX9_init_4 ++ []
def dkwX9_init_3 : List UInt8 := [42, 27, 181, 0, 46, 42, 28, 181, 0, 50, 42, 29, 181, 0, 53, 42, 21, 4, 181, 0, 56, 3, 54, 5]
abbrev dktX9_init_3 : List UInt8 := dkwX9_init_3 ++ dktX9_init_4
def dkwX9_init_2 : List UInt8 := [183, 0, 34, 181, 0, 35, 42, 6, 188, 10, 181, 0, 39, 42, 187, 0, 32, 89, 183, 0, 34, 181, 0, 43]
abbrev dktX9_init_2 : List UInt8 := dkwX9_init_2 ++ dktX9_init_3
def dkwX9_init_1 : List UInt8 := [89, 183, 0, 24, 181, 0, 25, 42, 187, 0, 22, 89, 183, 0, 24, 181, 0, 29, 42, 187, 0, 32, 89]
abbrev dktX9_init_1 : List UInt8 := dkwX9_init_1 ++ dktX9_init_2
def dkwX9_init_0 : List UInt8 := [42, 183, 0, 3, 42, 4, 181, 0, 9, 42, 187, 0, 15, 89, 183, 0, 17, 181, 0, 18, 42, 187, 0, 22]
abbrev dktX9_init_0 : List UInt8 := dkwX9_init_0 ++ dktX9_init_1
theorem dksX9_init_0 : cX9_init.data.toList.drop 0 = dktX9_init_0 := by decide +kernel
theorem dksX9_init_1 : cX9_init.data.toList.drop 24 = dktX9_init_1 := dk_seg dksX9_init_0 24 rfl rfl
theorem dksX9_init_2 : cX9_init.data.toList.drop 47 = dktX9_init_2 := dk_seg dksX9_init_1 23 rfl rfl
theorem dksX9_init_3 : cX9_init.data.toList.drop 71 = dktX9_init_3 := dk_seg dksX9_init_2 24 rfl rfl
theorem dksX9_init_4 : cX9_init.data.toList.drop 95 = dktX9_init_4 := dk_seg dksX9_init_3 24 rfl rfl
theorem dX9_init_0 : decode cX9_init 0 = .ok (.aload_n 0, 1) := dk_42 (dk_at dksX9_init_0 0 rfl rfl)
theorem dX9_init_1 : decode cX9_init 1 = .ok (.invokespecial 3, 3) := dk_183 0 3 (dk_at dksX9_init_0 1 rfl rfl)
theorem dX9_init_4 : decode cX9_init 4 = .ok (.aload_n 0, 1) := dk_42 (dk_at dksX9_init_0 4 rfl rfl)
theorem dX9_init_5 : decode cX9_init 5 = .ok (.iconst 1, 1) := dk_4 (dk_at dksX9_init_0 5 rfl rfl)
theorem dX9_init_6 : decode cX9_init 6 = .ok (.putfield 9, 3) := dk_181 0 9 (dk_at dksX9_init_0 6 rfl rfl)
theorem dX9_init_9 : decode cX9_init 9 = .ok (.aload_n 0, 1) := dk_42 (dk_at dksX9_init_0 9 rfl rfl)
theorem dX9_init_10 : decode cX9_init 10 = .ok (.new 15, 3) := dk_187 0 15 (dk_at dksX9_init_0 10 rfl rfl)
theorem dX9_init_13 : decode cX9_init 13 = .ok (.dup, 1) := dk_89 (dk_at dksX9_init_0 13 rfl rfl)
theorem dX9_init_14 : decode cX9_init 14 = .ok (.invokespecial 17, 3) := dk_183 0 17 (dk_at dksX9_init_0 14 rfl rfl)
theorem dX9_init_17 : decode cX9_init 17 = .ok (.putfield 18, 3) := dk_181 0 18 (dk_at dksX9_init_0 17 rfl rfl)
theorem dX9_init_20 : decode cX9_init 20 = .ok (.aload_n 0, 1) := dk_42 (dk_at dksX9_init_0 20 rfl rfl)
theorem dX9_init_21 : decode cX9_init 21 = .ok (.new 22, 3) := dk_187 0 22 (dk_at dksX9_init_0 21 rfl rfl)
theorem dX9_init_24 : decode cX9_init 24 = .ok (.dup, 1) := dk_89 (dk_at dksX9_init_1 0 rfl rfl)
theorem dX9_init_25 : decode cX9_init 25 = .ok (.invokespecial 24, 3) := dk_183 0 24 (dk_at dksX9_init_1 1 rfl rfl)
theorem dX9_init_28 : decode cX9_init 28 = .ok (.putfield 25, 3) := dk_181 0 25 (dk_at dksX9_init_1 4 rfl rfl)
theorem dX9_init_31 : decode cX9_init 31 = .ok (.aload_n 0, 1) := dk_42 (dk_at dksX9_init_1 7 rfl rfl)
theorem dX9_init_32 : decode cX9_init 32 = .ok (.new 22, 3) := dk_187 0 22 (dk_at dksX9_init_1 8 rfl rfl)
theorem dX9_init_35 : decode cX9_init 35 = .ok (.dup, 1) := dk_89 (dk_at dksX9_init_1 11 rfl rfl)
theorem dX9_init_36 : decode cX9_init 36 = .ok (.invokespecial 24, 3) := dk_183 0 24 (dk_at dksX9_init_1 12 rfl rfl)
theorem dX9_init_39 : decode cX9_init 39 = .ok (.putfield 29, 3) := dk_181 0 29 (dk_at dksX9_init_1 15 rfl rfl)
theorem dX9_init_42 : decode cX9_init 42 = .ok (.aload_n 0, 1) := dk_42 (dk_at dksX9_init_1 18 rfl rfl)
theorem dX9_init_43 : decode cX9_init 43 = .ok (.new 32, 3) := dk_187 0 32 (dk_at dksX9_init_1 19 rfl rfl)
theorem dX9_init_46 : decode cX9_init 46 = .ok (.dup, 1) := dk_89 (dk_at dksX9_init_1 22 rfl rfl)
theorem dX9_init_47 : decode cX9_init 47 = .ok (.invokespecial 34, 3) := dk_183 0 34 (dk_at dksX9_init_2 0 rfl rfl)
theorem dX9_init_50 : decode cX9_init 50 = .ok (.putfield 35, 3) := dk_181 0 35 (dk_at dksX9_init_2 3 rfl rfl)
theorem dX9_init_53 : decode cX9_init 53 = .ok (.aload_n 0, 1) := dk_42 (dk_at dksX9_init_2 6 rfl rfl)
theorem dX9_init_54 : decode cX9_init 54 = .ok (.iconst 3, 1) := dk_6 (dk_at dksX9_init_2 7 rfl rfl)
theorem dX9_init_55 : decode cX9_init 55 = .ok (.newarray .int, 2) := dk_188_10 (dk_at dksX9_init_2 8 rfl rfl)
theorem dX9_init_57 : decode cX9_init 57 = .ok (.putfield 39, 3) := dk_181 0 39 (dk_at dksX9_init_2 10 rfl rfl)
theorem dX9_init_60 : decode cX9_init 60 = .ok (.aload_n 0, 1) := dk_42 (dk_at dksX9_init_2 13 rfl rfl)
theorem dX9_init_61 : decode cX9_init 61 = .ok (.new 32, 3) := dk_187 0 32 (dk_at dksX9_init_2 14 rfl rfl)
theorem dX9_init_64 : decode cX9_init 64 = .ok (.dup, 1) := dk_89 (dk_at dksX9_init_2 17 rfl rfl)
theorem dX9_init_65 : decode cX9_init 65 = .ok (.invokespecial 34, 3) := dk_183 0 34 (dk_at dksX9_init_2 18 rfl rfl)
theorem dX9_init_68 : decode cX9_init 68 = .ok (.putfield 43, 3) := dk_181 0 43 (dk_at dksX9_init_2 21 rfl rfl)
theorem dX9_init_71 : decode cX9_init 71 = .ok (.aload_n 0, 1) := dk_42 (dk_at dksX9_init_3 0 rfl rfl)
theorem dX9_init_72 : decode cX9_init 72 = .ok (.iload_n 1, 1) := dk_27 (dk_at dksX9_init_3 1 rfl rfl)
theorem dX9_init_73 : decode cX9_init 73 = .ok (.putfield 46, 3) := dk_181 0 46 (dk_at dksX9_init_3 2 rfl rfl)
theorem dX9_init_76 : decode cX9_init 76 = .ok (.aload_n 0, 1) := dk_42 (dk_at dksX9_init_3 5 rfl rfl)
theorem dX9_init_77 : decode cX9_init 77 = .ok (.iload_n 2, 1) := dk_28 (dk_at dksX9_init_3 6 rfl rfl)
theorem dX9_init_78 : decode cX9_init 78 = .ok (.putfield 50, 3) := dk_181 0 50 (dk_at dksX9_init_3 7 rfl rfl)
theorem dX9_init_81 : decode cX9_init 81 = .ok (.aload_n 0, 1) := dk_42 (dk_at dksX9_init_3 10 rfl rfl)
theorem dX9_init_82 : decode cX9_init 82 = .ok (.iload_n 3, 1) := dk_29 (dk_at dksX9_init_3 11 rfl rfl)
theorem dX9_init_83 : decode cX9_init 83 = .ok (.putfield 53, 3) := dk_181 0 53 (dk_at dksX9_init_3 12 rfl rfl)
theorem dX9_init_86 : decode cX9_init 86 = .ok (.aload_n 0, 1) := dk_42 (dk_at dksX9_init_3 15 rfl rfl)
theorem dX9_init_87 : decode cX9_init 87 = .ok (.iload 4, 2) := dk_21 4 (dk_at dksX9_init_3 16 rfl rfl)
theorem dX9_init_89 : decode cX9_init 89 = .ok (.putfield 56, 3) := dk_181 0 56 (dk_at dksX9_init_3 18 rfl rfl)
theorem dX9_init_92 : decode cX9_init 92 = .ok (.iconst 0, 1) := dk_3 (dk_at dksX9_init_3 21 rfl rfl)
theorem dX9_init_93 : decode cX9_init 93 = .ok (.istore 5, 2) := dk_54 5 (dk_at dksX9_init_3 22 rfl rfl)
theorem dX9_init_95 : decode cX9_init 95 = .ok (.iload 5, 2) := dk_21 5 (dk_at dksX9_init_4 0 rfl rfl)
theorem dX9_init_97 : decode cX9_init 97 = .ok (.iconst 3, 1) := dk_6 (dk_at dksX9_init_4 2 rfl rfl)
theorem dX9_init_98 : decode cX9_init 98 = .ok (.if_icmp .ge 17, 3) := dk_162 0 17 (dk_at dksX9_init_4 3 rfl rfl)
theorem dX9_init_101 : decode cX9_init 101 = .ok (.aload_n 0, 1) := dk_42 (dk_at dksX9_init_4 6 rfl rfl)
theorem dX9_init_102 : decode cX9_init 102 = .ok (.getfield 39, 3) := dk_180 0 39 (dk_at dksX9_init_4 7 rfl rfl)
theorem dX9_init_105 : decode cX9_init 105 = .ok (.iload 5, 2) := dk_21 5 (dk_at dksX9_init_4 10 rfl rfl)
theorem dX9_init_107 : decode cX9_init 107 = .ok (.iconst (-1), 1) := dk_2 (dk_at dksX9_init_4 12 rfl rfl)
theorem dX9_init_108 : decode cX9_init 108 = .ok (.iastore, 1) := dk_79 (dk_at dksX9_init_4 13 rfl rfl)
theorem dX9_init_109 : decode cX9_init 109 = .ok (.iinc 5 1, 3) := dk_132 5 1 (dk_at dksX9_init_4 14 rfl rfl)
theorem dX9_init_112 : decode cX9_init 112 = .ok (.goto (-17), 3) := dk_167 255 239 (dk_at dksX9_init_4 17 rfl rfl)
theorem dX9_init_115 : decode cX9_init 115 = .ok (.return_, 1) := dk_177 (dk_at dksX9_init_4 20 rfl rfl)
abbrev cX9_mountOver : ByteArray := prog_2_method_2_code
def yX9_mountOver : MethodName := ⟨RX9, "mountOver", "(I)LCrateDeck$Mount;"⟩
def dkwX9_mountOver_2 : List UInt8 := [185, 0, 65, 2, 0, 192, 0, 69, 176, 132, 2, 1, 167, 255, 203, 1, 176]
abbrev dktX9_mountOver_2 : List UInt8 := dkwX9_mountOver_2 ++ []
def dkwX9_mountOver_1 : List UInt8 := [185, 0, 65, 2, 0, 192, 0, 69, 182, 0, 71, 184, 0, 74, 153, 0, 17, 42, 180, 0, 35, 28]
abbrev dktX9_mountOver_1 : List UInt8 := dkwX9_mountOver_1 ++ dktX9_mountOver_2
def dkwX9_mountOver_0 : List UInt8 := [3, 61, 28, 42, 180, 0, 35, 185, 0, 59, 1, 0, 162, 0, 46, 27, 42, 180, 0, 35, 28]
abbrev dktX9_mountOver_0 : List UInt8 := dkwX9_mountOver_0 ++ dktX9_mountOver_1
theorem dksX9_mountOver_0 : cX9_mountOver.data.toList.drop 0 = dktX9_mountOver_0 := by decide +kernel
theorem dksX9_mountOver_1 : cX9_mountOver.data.toList.drop 21 = dktX9_mountOver_1 := dk_seg dksX9_mountOver_0 21 rfl rfl
theorem dksX9_mountOver_2 : cX9_mountOver.data.toList.drop 43 = dktX9_mountOver_2 := dk_seg dksX9_mountOver_1 22 rfl rfl
theorem dX9_mountOver_0 : decode cX9_mountOver 0 = .ok (.iconst 0, 1) := dk_3 (dk_at dksX9_mountOver_0 0 rfl rfl)
theorem dX9_mountOver_1 : decode cX9_mountOver 1 = .ok (.istore_n 2, 1) := dk_61 (dk_at dksX9_mountOver_0 1 rfl rfl)
theorem dX9_mountOver_2 : decode cX9_mountOver 2 = .ok (.iload_n 2, 1) := dk_28 (dk_at dksX9_mountOver_0 2 rfl rfl)
theorem dX9_mountOver_3 : decode cX9_mountOver 3 = .ok (.aload_n 0, 1) := dk_42 (dk_at dksX9_mountOver_0 3 rfl rfl)
theorem dX9_mountOver_4 : decode cX9_mountOver 4 = .ok (.getfield 35, 3) := dk_180 0 35 (dk_at dksX9_mountOver_0 4 rfl rfl)
theorem dX9_mountOver_7 : decode cX9_mountOver 7 = .ok (.invokeinterface 59 1, 5) := by decide +kernel
theorem dX9_mountOver_12 : decode cX9_mountOver 12 = .ok (.if_icmp .ge 46, 3) := dk_162 0 46 (dk_at dksX9_mountOver_0 12 rfl rfl)
theorem dX9_mountOver_15 : decode cX9_mountOver 15 = .ok (.iload_n 1, 1) := dk_27 (dk_at dksX9_mountOver_0 15 rfl rfl)
theorem dX9_mountOver_16 : decode cX9_mountOver 16 = .ok (.aload_n 0, 1) := dk_42 (dk_at dksX9_mountOver_0 16 rfl rfl)
theorem dX9_mountOver_17 : decode cX9_mountOver 17 = .ok (.getfield 35, 3) := dk_180 0 35 (dk_at dksX9_mountOver_0 17 rfl rfl)
theorem dX9_mountOver_20 : decode cX9_mountOver 20 = .ok (.iload_n 2, 1) := dk_28 (dk_at dksX9_mountOver_0 20 rfl rfl)
theorem dX9_mountOver_21 : decode cX9_mountOver 21 = .ok (.invokeinterface 65 2, 5) := by decide +kernel
theorem dX9_mountOver_26 : decode cX9_mountOver 26 = .ok (.checkcast 69, 3) := dk_192 0 69 (dk_at dksX9_mountOver_1 5 rfl rfl)
theorem dX9_mountOver_29 : decode cX9_mountOver 29 = .ok (.invokevirtual 71, 3) := dk_182 0 71 (dk_at dksX9_mountOver_1 8 rfl rfl)
theorem dX9_mountOver_32 : decode cX9_mountOver 32 = .ok (.invokestatic 74, 3) := dk_184 0 74 (dk_at dksX9_mountOver_1 11 rfl rfl)
theorem dX9_mountOver_35 : decode cX9_mountOver 35 = .ok (.ifCond .eq 17, 3) := dk_153 0 17 (dk_at dksX9_mountOver_1 14 rfl rfl)
theorem dX9_mountOver_38 : decode cX9_mountOver 38 = .ok (.aload_n 0, 1) := dk_42 (dk_at dksX9_mountOver_1 17 rfl rfl)
theorem dX9_mountOver_39 : decode cX9_mountOver 39 = .ok (.getfield 35, 3) := dk_180 0 35 (dk_at dksX9_mountOver_1 18 rfl rfl)
theorem dX9_mountOver_42 : decode cX9_mountOver 42 = .ok (.iload_n 2, 1) := dk_28 (dk_at dksX9_mountOver_1 21 rfl rfl)
theorem dX9_mountOver_43 : decode cX9_mountOver 43 = .ok (.invokeinterface 65 2, 5) := by decide +kernel
theorem dX9_mountOver_48 : decode cX9_mountOver 48 = .ok (.checkcast 69, 3) := dk_192 0 69 (dk_at dksX9_mountOver_2 5 rfl rfl)
theorem dX9_mountOver_51 : decode cX9_mountOver 51 = .ok (.areturn, 1) := dk_176 (dk_at dksX9_mountOver_2 8 rfl rfl)
theorem dX9_mountOver_52 : decode cX9_mountOver 52 = .ok (.iinc 2 1, 3) := dk_132 2 1 (dk_at dksX9_mountOver_2 9 rfl rfl)
theorem dX9_mountOver_55 : decode cX9_mountOver 55 = .ok (.goto (-53), 3) := dk_167 255 203 (dk_at dksX9_mountOver_2 12 rfl rfl)
theorem dX9_mountOver_58 : decode cX9_mountOver 58 = .ok (.aconst_null, 1) := dk_1 (dk_at dksX9_mountOver_2 15 rfl rfl)
theorem dX9_mountOver_59 : decode cX9_mountOver 59 = .ok (.areturn, 1) := dk_176 (dk_at dksX9_mountOver_2 16 rfl rfl)
abbrev cX9_hasMountWithin : ByteArray := prog_2_method_3_code
def yX9_hasMountWithin : MethodName := ⟨RX9, "hasMountWithin", "(I)Z"⟩
def dkwX9_hasMountWithin_2 : List UInt8 := [172]
abbrev dktX9_hasMountWithin_2 : List UInt8 := dkwX9_hasMountWithin_2 ++ []
def dkwX9_hasMountWithin_1 : List UInt8 := [185, 0, 65, 2, 0, 192, 0, 69, 182, 0, 71, 27, 184, 0, 74, 128, 61, 132, 3, 1, 167, 255, 217, 28]
abbrev dktX9_hasMountWithin_1 : List UInt8 := dkwX9_hasMountWithin_1 ++ dktX9_hasMountWithin_2
def dkwX9_hasMountWithin_0 : List UInt8 := [3, 61, 3, 62, 29, 42, 180, 0, 35, 185, 0, 59, 1, 0, 162, 0, 32, 28, 42, 180, 0, 35, 29]
abbrev dktX9_hasMountWithin_0 : List UInt8 := dkwX9_hasMountWithin_0 ++ dktX9_hasMountWithin_1
theorem dksX9_hasMountWithin_0 : cX9_hasMountWithin.data.toList.drop 0 = dktX9_hasMountWithin_0 := by decide +kernel
theorem dksX9_hasMountWithin_1 : cX9_hasMountWithin.data.toList.drop 23 = dktX9_hasMountWithin_1 := dk_seg dksX9_hasMountWithin_0 23 rfl rfl
theorem dksX9_hasMountWithin_2 : cX9_hasMountWithin.data.toList.drop 47 = dktX9_hasMountWithin_2 := dk_seg dksX9_hasMountWithin_1 24 rfl rfl
theorem dX9_hasMountWithin_0 : decode cX9_hasMountWithin 0 = .ok (.iconst 0, 1) := dk_3 (dk_at dksX9_hasMountWithin_0 0 rfl rfl)
theorem dX9_hasMountWithin_1 : decode cX9_hasMountWithin 1 = .ok (.istore_n 2, 1) := dk_61 (dk_at dksX9_hasMountWithin_0 1 rfl rfl)
theorem dX9_hasMountWithin_2 : decode cX9_hasMountWithin 2 = .ok (.iconst 0, 1) := dk_3 (dk_at dksX9_hasMountWithin_0 2 rfl rfl)
theorem dX9_hasMountWithin_3 : decode cX9_hasMountWithin 3 = .ok (.istore_n 3, 1) := dk_62 (dk_at dksX9_hasMountWithin_0 3 rfl rfl)
theorem dX9_hasMountWithin_4 : decode cX9_hasMountWithin 4 = .ok (.iload_n 3, 1) := dk_29 (dk_at dksX9_hasMountWithin_0 4 rfl rfl)
theorem dX9_hasMountWithin_5 : decode cX9_hasMountWithin 5 = .ok (.aload_n 0, 1) := dk_42 (dk_at dksX9_hasMountWithin_0 5 rfl rfl)
theorem dX9_hasMountWithin_6 : decode cX9_hasMountWithin 6 = .ok (.getfield 35, 3) := dk_180 0 35 (dk_at dksX9_hasMountWithin_0 6 rfl rfl)
theorem dX9_hasMountWithin_9 : decode cX9_hasMountWithin 9 = .ok (.invokeinterface 59 1, 5) := by decide +kernel
theorem dX9_hasMountWithin_14 : decode cX9_hasMountWithin 14 = .ok (.if_icmp .ge 32, 3) := dk_162 0 32 (dk_at dksX9_hasMountWithin_0 14 rfl rfl)
theorem dX9_hasMountWithin_17 : decode cX9_hasMountWithin 17 = .ok (.iload_n 2, 1) := dk_28 (dk_at dksX9_hasMountWithin_0 17 rfl rfl)
theorem dX9_hasMountWithin_18 : decode cX9_hasMountWithin 18 = .ok (.aload_n 0, 1) := dk_42 (dk_at dksX9_hasMountWithin_0 18 rfl rfl)
theorem dX9_hasMountWithin_19 : decode cX9_hasMountWithin 19 = .ok (.getfield 35, 3) := dk_180 0 35 (dk_at dksX9_hasMountWithin_0 19 rfl rfl)
theorem dX9_hasMountWithin_22 : decode cX9_hasMountWithin 22 = .ok (.iload_n 3, 1) := dk_29 (dk_at dksX9_hasMountWithin_0 22 rfl rfl)
theorem dX9_hasMountWithin_23 : decode cX9_hasMountWithin 23 = .ok (.invokeinterface 65 2, 5) := by decide +kernel
theorem dX9_hasMountWithin_28 : decode cX9_hasMountWithin 28 = .ok (.checkcast 69, 3) := dk_192 0 69 (dk_at dksX9_hasMountWithin_1 5 rfl rfl)
theorem dX9_hasMountWithin_31 : decode cX9_hasMountWithin 31 = .ok (.invokevirtual 71, 3) := dk_182 0 71 (dk_at dksX9_hasMountWithin_1 8 rfl rfl)
theorem dX9_hasMountWithin_34 : decode cX9_hasMountWithin 34 = .ok (.iload_n 1, 1) := dk_27 (dk_at dksX9_hasMountWithin_1 11 rfl rfl)
theorem dX9_hasMountWithin_35 : decode cX9_hasMountWithin 35 = .ok (.invokestatic 74, 3) := dk_184 0 74 (dk_at dksX9_hasMountWithin_1 12 rfl rfl)
theorem dX9_hasMountWithin_38 : decode cX9_hasMountWithin 38 = .ok (.ior, 1) := dk_128 (dk_at dksX9_hasMountWithin_1 15 rfl rfl)
theorem dX9_hasMountWithin_39 : decode cX9_hasMountWithin 39 = .ok (.istore_n 2, 1) := dk_61 (dk_at dksX9_hasMountWithin_1 16 rfl rfl)
theorem dX9_hasMountWithin_40 : decode cX9_hasMountWithin 40 = .ok (.iinc 3 1, 3) := dk_132 3 1 (dk_at dksX9_hasMountWithin_1 17 rfl rfl)
theorem dX9_hasMountWithin_43 : decode cX9_hasMountWithin 43 = .ok (.goto (-39), 3) := dk_167 255 217 (dk_at dksX9_hasMountWithin_1 20 rfl rfl)
theorem dX9_hasMountWithin_46 : decode cX9_hasMountWithin 46 = .ok (.iload_n 2, 1) := dk_28 (dk_at dksX9_hasMountWithin_1 23 rfl rfl)
theorem dX9_hasMountWithin_47 : decode cX9_hasMountWithin 47 = .ok (.ireturn, 1) := dk_172 (dk_at dksX9_hasMountWithin_2 0 rfl rfl)
abbrev cX9_isConnected : ByteArray := prog_2_method_4_code
def yX9_isConnected : MethodName := ⟨RX9, "isConnected", "()Z"⟩
def dkwX9_isConnected_1 : List UInt8 := [54, 5, 27, 21, 5, 2, 159, 0, 7, 4, 167, 0, 4, 3, 128, 60, 132, 4, 1, 167, 255, 227, 27, 172]
abbrev dktX9_isConnected_1 : List UInt8 := dkwX9_isConnected_1 ++ []
def dkwX9_isConnected_0 : List UInt8 := [3, 60, 42, 180, 0, 39, 77, 44, 190, 62, 3, 54, 4, 21, 4, 29, 162, 0, 29, 44, 21, 4, 46]
abbrev dktX9_isConnected_0 : List UInt8 := dkwX9_isConnected_0 ++ dktX9_isConnected_1
theorem dksX9_isConnected_0 : cX9_isConnected.data.toList.drop 0 = dktX9_isConnected_0 := by decide +kernel
theorem dksX9_isConnected_1 : cX9_isConnected.data.toList.drop 23 = dktX9_isConnected_1 := dk_seg dksX9_isConnected_0 23 rfl rfl
theorem dX9_isConnected_0 : decode cX9_isConnected 0 = .ok (.iconst 0, 1) := dk_3 (dk_at dksX9_isConnected_0 0 rfl rfl)
theorem dX9_isConnected_1 : decode cX9_isConnected 1 = .ok (.istore_n 1, 1) := dk_60 (dk_at dksX9_isConnected_0 1 rfl rfl)
theorem dX9_isConnected_2 : decode cX9_isConnected 2 = .ok (.aload_n 0, 1) := dk_42 (dk_at dksX9_isConnected_0 2 rfl rfl)
theorem dX9_isConnected_3 : decode cX9_isConnected 3 = .ok (.getfield 39, 3) := dk_180 0 39 (dk_at dksX9_isConnected_0 3 rfl rfl)
theorem dX9_isConnected_6 : decode cX9_isConnected 6 = .ok (.astore_n 2, 1) := dk_77 (dk_at dksX9_isConnected_0 6 rfl rfl)
theorem dX9_isConnected_7 : decode cX9_isConnected 7 = .ok (.aload_n 2, 1) := dk_44 (dk_at dksX9_isConnected_0 7 rfl rfl)
theorem dX9_isConnected_8 : decode cX9_isConnected 8 = .ok (.arraylength, 1) := dk_190 (dk_at dksX9_isConnected_0 8 rfl rfl)
theorem dX9_isConnected_9 : decode cX9_isConnected 9 = .ok (.istore_n 3, 1) := dk_62 (dk_at dksX9_isConnected_0 9 rfl rfl)
theorem dX9_isConnected_10 : decode cX9_isConnected 10 = .ok (.iconst 0, 1) := dk_3 (dk_at dksX9_isConnected_0 10 rfl rfl)
theorem dX9_isConnected_11 : decode cX9_isConnected 11 = .ok (.istore 4, 2) := dk_54 4 (dk_at dksX9_isConnected_0 11 rfl rfl)
theorem dX9_isConnected_13 : decode cX9_isConnected 13 = .ok (.iload 4, 2) := dk_21 4 (dk_at dksX9_isConnected_0 13 rfl rfl)
theorem dX9_isConnected_15 : decode cX9_isConnected 15 = .ok (.iload_n 3, 1) := dk_29 (dk_at dksX9_isConnected_0 15 rfl rfl)
theorem dX9_isConnected_16 : decode cX9_isConnected 16 = .ok (.if_icmp .ge 29, 3) := dk_162 0 29 (dk_at dksX9_isConnected_0 16 rfl rfl)
theorem dX9_isConnected_19 : decode cX9_isConnected 19 = .ok (.aload_n 2, 1) := dk_44 (dk_at dksX9_isConnected_0 19 rfl rfl)
theorem dX9_isConnected_20 : decode cX9_isConnected 20 = .ok (.iload 4, 2) := dk_21 4 (dk_at dksX9_isConnected_0 20 rfl rfl)
theorem dX9_isConnected_22 : decode cX9_isConnected 22 = .ok (.iaload, 1) := dk_46 (dk_at dksX9_isConnected_0 22 rfl rfl)
theorem dX9_isConnected_23 : decode cX9_isConnected 23 = .ok (.istore 5, 2) := dk_54 5 (dk_at dksX9_isConnected_1 0 rfl rfl)
theorem dX9_isConnected_25 : decode cX9_isConnected 25 = .ok (.iload_n 1, 1) := dk_27 (dk_at dksX9_isConnected_1 2 rfl rfl)
theorem dX9_isConnected_26 : decode cX9_isConnected 26 = .ok (.iload 5, 2) := dk_21 5 (dk_at dksX9_isConnected_1 3 rfl rfl)
theorem dX9_isConnected_28 : decode cX9_isConnected 28 = .ok (.iconst (-1), 1) := dk_2 (dk_at dksX9_isConnected_1 5 rfl rfl)
theorem dX9_isConnected_29 : decode cX9_isConnected 29 = .ok (.if_icmp .eq 7, 3) := dk_159 0 7 (dk_at dksX9_isConnected_1 6 rfl rfl)
theorem dX9_isConnected_32 : decode cX9_isConnected 32 = .ok (.iconst 1, 1) := dk_4 (dk_at dksX9_isConnected_1 9 rfl rfl)
theorem dX9_isConnected_33 : decode cX9_isConnected 33 = .ok (.goto 4, 3) := dk_167 0 4 (dk_at dksX9_isConnected_1 10 rfl rfl)
theorem dX9_isConnected_36 : decode cX9_isConnected 36 = .ok (.iconst 0, 1) := dk_3 (dk_at dksX9_isConnected_1 13 rfl rfl)
theorem dX9_isConnected_37 : decode cX9_isConnected 37 = .ok (.ior, 1) := dk_128 (dk_at dksX9_isConnected_1 14 rfl rfl)
theorem dX9_isConnected_38 : decode cX9_isConnected 38 = .ok (.istore_n 1, 1) := dk_60 (dk_at dksX9_isConnected_1 15 rfl rfl)
theorem dX9_isConnected_39 : decode cX9_isConnected 39 = .ok (.iinc 4 1, 3) := dk_132 4 1 (dk_at dksX9_isConnected_1 16 rfl rfl)
theorem dX9_isConnected_42 : decode cX9_isConnected 42 = .ok (.goto (-29), 3) := dk_167 255 227 (dk_at dksX9_isConnected_1 19 rfl rfl)
theorem dX9_isConnected_45 : decode cX9_isConnected 45 = .ok (.iload_n 1, 1) := dk_27 (dk_at dksX9_isConnected_1 22 rfl rfl)
theorem dX9_isConnected_46 : decode cX9_isConnected 46 = .ok (.ireturn, 1) := dk_172 (dk_at dksX9_isConnected_1 23 rfl rfl)
theorem q115 : (Jvm.Cond.initialized "CrateDeck$Container") ∈ lw_all := lw_g (lw_at lw_m1 30 rfl) rfl
theorem q240 : (Jvm.Cond.selects "CrateDeck$Container" ({ cls := "java/lang/Object", name := "getClass", desc := "()Ljava/lang/Class;" } : Jvm.MethodName) ({ cls := "java/lang/Object", name := "getClass", desc := "()Ljava/lang/Class;" } : Jvm.MethodName)) ∈ lw_all := lw_g (lw_at lw_m1 155 rfl) rfl
theorem q863 : (Jvm.Cond.instantiable "CrateDeck$Container" (11 : Nat)) ∈ lw_all := lw_g (lw_at lw_m4 58 rfl) rfl
theorem q865 : (Jvm.Cond.instanceMethod ({ cls := "CrateDeck$Container", name := "<init>", desc := "(IIII)V" } : Jvm.MethodName)) ∈ lw_all := lw_g (lw_at lw_m4 60 rfl) rfl
theorem q866 : (Jvm.Cond.code ({ cls := "CrateDeck$Container", name := "<init>", desc := "(IIII)V" } : Jvm.MethodName) prog_2_method_1_code (6 : Nat) (Option.none : Option Jvm.ClassFile.FieldType)) ∈ lw_all := lw_g (lw_at lw_m4 61 rfl) rfl
theorem q867 : (Jvm.Cond.methodLink "CrateDeck$Container" (3 : Nat) ({ cls := "java/lang/Object", name := "<init>", desc := "()V" } : Jvm.MethodName)) ∈ lw_all := lw_g (lw_at lw_m4 62 rfl) rfl
theorem q868 : (Jvm.Cond.classLink "CrateDeck$Container" (15 : Nat) "CrateDeck$Layer") ∈ lw_all := lw_g (lw_at lw_m4 63 rfl) rfl
theorem q869 : (Jvm.Cond.methodLinkNest "CrateDeck$Container" (17 : Nat) ({ cls := "CrateDeck$Layer", name := "<init>", desc := "()V" } : Jvm.MethodName) "CrateDeck") ∈ lw_tbl := lw_at lw_m4 64 rfl
theorem q870 : (Jvm.Cond.classLink "CrateDeck$Container" (22 : Nat) "CrateDeck$Tree") ∈ lw_all := lw_g (lw_at lw_m4 65 rfl) rfl
theorem q871 : (Jvm.Cond.methodLinkNest "CrateDeck$Container" (24 : Nat) ({ cls := "CrateDeck$Tree", name := "<init>", desc := "()V" } : Jvm.MethodName) "CrateDeck") ∈ lw_tbl := lw_at lw_m4 66 rfl
theorem q872 : (Jvm.Cond.classLink "CrateDeck$Container" (32 : Nat) "java/util/ArrayList") ∈ lw_all := lw_g (lw_at lw_m4 67 rfl) rfl
theorem q873 : (Jvm.Cond.methodLink "CrateDeck$Container" (34 : Nat) ({ cls := "java/util/ArrayList", name := "<init>", desc := "()V" } : Jvm.MethodName)) ∈ lw_all := lw_g (lw_at lw_m4 68 rfl) rfl
theorem q874 : (Jvm.Cond.fieldLink "CrateDeck$Container" (46 : Nat) "CrateDeck$Container" "number" "I") ∈ lw_all := lw_g (lw_at lw_m4 69 rfl) rfl
theorem q876 : (Jvm.Cond.fieldLink "CrateDeck$Container" (50 : Nat) "CrateDeck$Container" "image" "I") ∈ lw_all := lw_g (lw_at lw_m4 71 rfl) rfl
theorem q878 : (Jvm.Cond.fieldLink "CrateDeck$Container" (53 : Nat) "CrateDeck$Container" "name" "I") ∈ lw_all := lw_g (lw_at lw_m4 73 rfl) rfl
theorem q880 : (Jvm.Cond.fieldLink "CrateDeck$Container" (56 : Nat) "CrateDeck$Container" "service" "I") ∈ lw_all := lw_g (lw_at lw_m4 75 rfl) rfl
theorem q882 : (Jvm.Cond.fieldLink "CrateDeck$Container" (9 : Nat) "CrateDeck$Container" "isHealthy" "Z") ∈ lw_all := lw_g (lw_at lw_m4 77 rfl) rfl
theorem q884 : (Jvm.Cond.fieldLink "CrateDeck$Container" (18 : Nat) "CrateDeck$Container" "own" "LCrateDeck$Layer;") ∈ lw_all := lw_g (lw_at lw_m4 79 rfl) rfl
theorem q886 : (Jvm.Cond.fieldLink "CrateDeck$Container" (25 : Nat) "CrateDeck$Container" "tree" "LCrateDeck$Tree;") ∈ lw_all := lw_g (lw_at lw_m4 81 rfl) rfl
theorem q888 : (Jvm.Cond.fieldLink "CrateDeck$Container" (29 : Nat) "CrateDeck$Container" "below" "LCrateDeck$Tree;") ∈ lw_all := lw_g (lw_at lw_m4 83 rfl) rfl
theorem q890 : (Jvm.Cond.fieldLink "CrateDeck$Container" (35 : Nat) "CrateDeck$Container" "mounts" "Ljava/util/List;") ∈ lw_all := lw_g (lw_at lw_m4 85 rfl) rfl
theorem q892 : (Jvm.Cond.fieldLink "CrateDeck$Container" (39 : Nat) "CrateDeck$Container" "addresses" "[I") ∈ lw_all := lw_g (lw_at lw_m4 87 rfl) rfl
theorem q894 : (Jvm.Cond.fieldLink "CrateDeck$Container" (43 : Nat) "CrateDeck$Container" "filters" "Ljava/util/List;") ∈ lw_all := lw_g (lw_at lw_m4 89 rfl) rfl
theorem q896 : (Jvm.Cond.laysFinal "CrateDeck$Container" "CrateDeck$Container" "number" "I") ∈ lw_all := lw_g (lw_at lw_m4 91 rfl) rfl
theorem q897 : (Jvm.Cond.soleField "CrateDeck$Container" "number") ∈ lw_all := lw_g (lw_at lw_m4 92 rfl) rfl
theorem q898 : (Jvm.Cond.laysFinal "CrateDeck$Container" "CrateDeck$Container" "image" "I") ∈ lw_all := lw_g (lw_at lw_m4 93 rfl) rfl
theorem q899 : (Jvm.Cond.soleField "CrateDeck$Container" "image") ∈ lw_all := lw_g (lw_at lw_m4 94 rfl) rfl
theorem q900 : (Jvm.Cond.laysFinal "CrateDeck$Container" "CrateDeck$Container" "name" "I") ∈ lw_all := lw_g (lw_at lw_m4 95 rfl) rfl
theorem q901 : (Jvm.Cond.soleField "CrateDeck$Container" "name") ∈ lw_all := lw_g (lw_at lw_m4 96 rfl) rfl
theorem q902 : (Jvm.Cond.laysFinal "CrateDeck$Container" "CrateDeck$Container" "service" "I") ∈ lw_all := lw_g (lw_at lw_m4 97 rfl) rfl
theorem q903 : (Jvm.Cond.soleField "CrateDeck$Container" "service") ∈ lw_all := lw_g (lw_at lw_m4 98 rfl) rfl
theorem q904 : (Jvm.Cond.lays "CrateDeck$Container" "CrateDeck$Container" "isHealthy" "Z") ∈ lw_all := lw_g (lw_at lw_m4 99 rfl) rfl
theorem q905 : (Jvm.Cond.soleField "CrateDeck$Container" "isHealthy") ∈ lw_all := lw_g (lw_at lw_m4 100 rfl) rfl
theorem q906 : (Jvm.Cond.laysFinal "CrateDeck$Container" "CrateDeck$Container" "own" "LCrateDeck$Layer;") ∈ lw_all := lw_g (lw_at lw_m4 101 rfl) rfl
theorem q907 : (Jvm.Cond.soleField "CrateDeck$Container" "own") ∈ lw_all := lw_g (lw_at lw_m4 102 rfl) rfl
theorem q908 : (Jvm.Cond.laysFinal "CrateDeck$Container" "CrateDeck$Container" "tree" "LCrateDeck$Tree;") ∈ lw_all := lw_g (lw_at lw_m4 103 rfl) rfl
theorem q909 : (Jvm.Cond.soleField "CrateDeck$Container" "tree") ∈ lw_all := lw_g (lw_at lw_m4 104 rfl) rfl
theorem q910 : (Jvm.Cond.laysFinal "CrateDeck$Container" "CrateDeck$Container" "below" "LCrateDeck$Tree;") ∈ lw_all := lw_g (lw_at lw_m4 105 rfl) rfl
theorem q911 : (Jvm.Cond.soleField "CrateDeck$Container" "below") ∈ lw_all := lw_g (lw_at lw_m4 106 rfl) rfl
theorem q912 : (Jvm.Cond.laysFinal "CrateDeck$Container" "CrateDeck$Container" "mounts" "Ljava/util/List;") ∈ lw_all := lw_g (lw_at lw_m4 107 rfl) rfl
theorem q913 : (Jvm.Cond.soleField "CrateDeck$Container" "mounts") ∈ lw_all := lw_g (lw_at lw_m4 108 rfl) rfl
theorem q914 : (Jvm.Cond.laysFinal "CrateDeck$Container" "CrateDeck$Container" "addresses" "[I") ∈ lw_all := lw_g (lw_at lw_m4 109 rfl) rfl
theorem q915 : (Jvm.Cond.soleField "CrateDeck$Container" "addresses") ∈ lw_all := lw_g (lw_at lw_m4 110 rfl) rfl
theorem q916 : (Jvm.Cond.laysFinal "CrateDeck$Container" "CrateDeck$Container" "filters" "Ljava/util/List;") ∈ lw_all := lw_g (lw_at lw_m4 111 rfl) rfl
theorem q917 : (Jvm.Cond.soleField "CrateDeck$Container" "filters") ∈ lw_all := lw_g (lw_at lw_m4 112 rfl) rfl
theorem q918 : (Jvm.Cond.superclass "CrateDeck$Container" "java/lang/Object") ∈ lw_all := lw_g (lw_at lw_m4 113 rfl) rfl
theorem q948 : (Jvm.Cond.selects "CrateDeck$Container" ({ cls := "java/lang/Object", name := "equals", desc := "(Ljava/lang/Object;)Z" } : Jvm.MethodName) ({ cls := "java/lang/Object", name := "equals", desc := "(Ljava/lang/Object;)Z" } : Jvm.MethodName)) ∈ lw_all := lw_g (lw_at lw_m4 143 rfl) rfl
theorem q1008 : (Jvm.Cond.instanceMethod ({ cls := "CrateDeck$Container", name := "mountOver", desc := "(I)LCrateDeck$Mount;" } : Jvm.MethodName)) ∈ lw_all := lw_g (lw_at lw_m4 203 rfl) rfl
theorem q1009 : (Jvm.Cond.selects "CrateDeck$Container" ({ cls := "CrateDeck$Container", name := "mountOver", desc := "(I)LCrateDeck$Mount;" } : Jvm.MethodName) ({ cls := "CrateDeck$Container", name := "mountOver", desc := "(I)LCrateDeck$Mount;" } : Jvm.MethodName)) ∈ lw_all := lw_g (lw_at lw_m4 204 rfl) rfl
theorem q1010 : (Jvm.Cond.code ({ cls := "CrateDeck$Container", name := "mountOver", desc := "(I)LCrateDeck$Mount;" } : Jvm.MethodName) prog_2_method_2_code (3 : Nat) (Option.some (Jvm.ClassFile.FieldType.object "CrateDeck$Mount"))) ∈ lw_all := lw_g (lw_at lw_m4 205 rfl) rfl
theorem q1011 : (Jvm.Cond.interfaceEntry "CrateDeck$Container" (59 : Nat)) ∈ lw_tbl := lw_at lw_m4 206 rfl
theorem q1012 : (Jvm.Cond.methodLink "CrateDeck$Container" (59 : Nat) ({ cls := "java/util/List", name := "size", desc := "()I" } : Jvm.MethodName)) ∈ lw_all := lw_g (lw_at lw_m4 207 rfl) rfl
theorem q1013 : (Jvm.Cond.interfaceEntry "CrateDeck$Container" (65 : Nat)) ∈ lw_tbl := lw_at lw_m4 208 rfl
theorem q1014 : (Jvm.Cond.methodLink "CrateDeck$Container" (65 : Nat) ({ cls := "java/util/List", name := "get", desc := "(I)Ljava/lang/Object;" } : Jvm.MethodName)) ∈ lw_all := lw_g (lw_at lw_m4 209 rfl) rfl
theorem q1015 : (Jvm.Cond.classLink "CrateDeck$Container" (69 : Nat) "CrateDeck$Mount") ∈ lw_all := lw_g (lw_at lw_m4 210 rfl) rfl
theorem q1016 : (Jvm.Cond.methodLink "CrateDeck$Container" (71 : Nat) ({ cls := "CrateDeck$Mount", name := "path", desc := "()I" } : Jvm.MethodName)) ∈ lw_all := lw_g (lw_at lw_m4 211 rfl) rfl
theorem q1020 : (Jvm.Cond.methodLinkNest "CrateDeck$Container" (74 : Nat) ({ cls := "CrateDeck", name := "isWithin", desc := "(II)Z" } : Jvm.MethodName) "CrateDeck") ∈ lw_tbl := lw_at lw_m4 215 rfl
theorem q1051 : (Jvm.Cond.instanceMethod ({ cls := "CrateDeck$Container", name := "hasMountWithin", desc := "(I)Z" } : Jvm.MethodName)) ∈ lw_all := lw_g (lw_at lw_m5 6 rfl) rfl
theorem q1052 : (Jvm.Cond.selects "CrateDeck$Container" ({ cls := "CrateDeck$Container", name := "hasMountWithin", desc := "(I)Z" } : Jvm.MethodName) ({ cls := "CrateDeck$Container", name := "hasMountWithin", desc := "(I)Z" } : Jvm.MethodName)) ∈ lw_all := lw_g (lw_at lw_m5 7 rfl) rfl
theorem q1053 : (Jvm.Cond.code ({ cls := "CrateDeck$Container", name := "hasMountWithin", desc := "(I)Z" } : Jvm.MethodName) prog_2_method_3_code (4 : Nat) (Option.some Jvm.ClassFile.FieldType.boolean)) ∈ lw_all := lw_g (lw_at lw_m5 8 rfl) rfl
theorem q1347 : (Jvm.Cond.instanceMethod ({ cls := "CrateDeck$Container", name := "isConnected", desc := "()Z" } : Jvm.MethodName)) ∈ lw_all := lw_g (lw_at lw_m6 62 rfl) rfl
theorem q1348 : (Jvm.Cond.selects "CrateDeck$Container" ({ cls := "CrateDeck$Container", name := "isConnected", desc := "()Z" } : Jvm.MethodName) ({ cls := "CrateDeck$Container", name := "isConnected", desc := "()Z" } : Jvm.MethodName)) ∈ lw_all := lw_g (lw_at lw_m6 63 rfl) rfl
theorem q1349 : (Jvm.Cond.code ({ cls := "CrateDeck$Container", name := "isConnected", desc := "()Z" } : Jvm.MethodName) prog_2_method_4_code (6 : Nat) (Option.some Jvm.ClassFile.FieldType.boolean)) ∈ lw_all := lw_g (lw_at lw_m6 64 rfl) rfl
theorem q2144 : (Jvm.Cond.castable "CrateDeck$Container" "java/lang/Object") ∈ lw_tbl := lw_at lw_m9 139 rfl
theorem in_X9 : ∀ w ∈ wsX90, w ∈ lw_all := lw_in wsX90 [896, 898, 900, 902, 904, 906, 908, 910, 912, 914, 916] (by decide +kernel) (by decide +kernel)

/-! CrateDeck$Mount -/
set_option maxRecDepth 100000
def RX10 : String := "CrateDeck$Mount"
def TX10 : u_T := fun k => match k with
  | 0 => ("CrateDeck$Mount", "path", "I", true)
  | _ => ("CrateDeck$Mount", "volume", "I", true)
def tyX10 : Nat → FieldType := fun k => match k with
  | 0 => .int
  | _ => .int
abbrev wsX100 : List Cond := u_ws RX10 TX10 2
theorem nmX10 : ∀ a, a < 2 → ∀ b, b < 2 → a ≠ b → (TX10 a).2.1 ≠ (TX10 b).2.1 := by decide +kernel
theorem tyX10_ok : ∀ k, k < 2 → parseFieldDescriptor (TX10 k).2.2.1 = some (tyX10 k) := by decide +kernel
abbrev cX10_equals : ByteArray := prog_9_method_4_code
def yX10_equals : MethodName := ⟨RX10, "equals", "(Ljava/lang/Object;)Z"⟩
def dkwX10_equals_0 : List UInt8 := [42, 43, 186, 0, 24, 0, 0, 172]
abbrev dktX10_equals_0 : List UInt8 := dkwX10_equals_0 ++ []
theorem dksX10_equals_0 : cX10_equals.data.toList.drop 0 = dktX10_equals_0 := by decide +kernel
theorem dX10_equals_0 : decode cX10_equals 0 = .ok (.aload_n 0, 1) := dk_42 (dk_at dksX10_equals_0 0 rfl rfl)
theorem dX10_equals_1 : decode cX10_equals 1 = .ok (.aload_n 1, 1) := dk_43 (dk_at dksX10_equals_0 1 rfl rfl)
theorem dX10_equals_2 : decode cX10_equals 2 = .ok (.invokedynamic 24, 5) := by decide +kernel
theorem dX10_equals_7 : decode cX10_equals 7 = .ok (.ireturn, 1) := dk_172 (dk_at dksX10_equals_0 7 rfl rfl)
abbrev cX10_path : ByteArray := prog_9_method_5_code
def yX10_path : MethodName := ⟨RX10, "path", "()I"⟩
theorem dX10_path_0 : decode cX10_path 0 = .ok (.aload_n 0, 1) := by decide +kernel
theorem dX10_path_1 : decode cX10_path 1 = .ok (.getfield 7, 3) := by decide +kernel
theorem dX10_path_4 : decode cX10_path 4 = .ok (.ireturn, 1) := by decide +kernel
abbrev cX10_volume : ByteArray := prog_9_method_6_code
def yX10_volume : MethodName := ⟨RX10, "volume", "()I"⟩
theorem dX10_volume_0 : decode cX10_volume 0 = .ok (.aload_n 0, 1) := by decide +kernel
theorem dX10_volume_1 : decode cX10_volume 1 = .ok (.getfield 13, 3) := by decide +kernel
theorem dX10_volume_4 : decode cX10_volume 4 = .ok (.ireturn, 1) := by decide +kernel
abbrev cX10_init : ByteArray := prog_9_method_1_code
def yX10_init : MethodName := ⟨RX10, "<init>", "(II)V"⟩
def dkwX10_init_0 : List UInt8 := [42, 183, 0, 1, 42, 27, 181, 0, 7, 42, 28, 181, 0, 13, 177]
abbrev dktX10_init_0 : List UInt8 := dkwX10_init_0 ++ []
theorem dksX10_init_0 : cX10_init.data.toList.drop 0 = dktX10_init_0 := by decide +kernel
theorem dX10_init_0 : decode cX10_init 0 = .ok (.aload_n 0, 1) := dk_42 (dk_at dksX10_init_0 0 rfl rfl)
theorem dX10_init_1 : decode cX10_init 1 = .ok (.invokespecial 1, 3) := dk_183 0 1 (dk_at dksX10_init_0 1 rfl rfl)
theorem dX10_init_4 : decode cX10_init 4 = .ok (.aload_n 0, 1) := dk_42 (dk_at dksX10_init_0 4 rfl rfl)
theorem dX10_init_5 : decode cX10_init 5 = .ok (.iload_n 1, 1) := dk_27 (dk_at dksX10_init_0 5 rfl rfl)
theorem dX10_init_6 : decode cX10_init 6 = .ok (.putfield 7, 3) := dk_181 0 7 (dk_at dksX10_init_0 6 rfl rfl)
theorem dX10_init_9 : decode cX10_init 9 = .ok (.aload_n 0, 1) := dk_42 (dk_at dksX10_init_0 9 rfl rfl)
theorem dX10_init_10 : decode cX10_init 10 = .ok (.iload_n 2, 1) := dk_28 (dk_at dksX10_init_0 10 rfl rfl)
theorem dX10_init_11 : decode cX10_init 11 = .ok (.putfield 13, 3) := dk_181 0 13 (dk_at dksX10_init_0 11 rfl rfl)
theorem dX10_init_14 : decode cX10_init 14 = .ok (.return_, 1) := dk_177 (dk_at dksX10_init_0 14 rfl rfl)
theorem q116 : (Jvm.Cond.initialized "CrateDeck$Mount") ∈ lw_all := lw_g (lw_at lw_m1 31 rfl) rfl
theorem q247 : (Jvm.Cond.selects "CrateDeck$Mount" ({ cls := "java/lang/Object", name := "getClass", desc := "()Ljava/lang/Class;" } : Jvm.MethodName) ({ cls := "java/lang/Object", name := "getClass", desc := "()Ljava/lang/Class;" } : Jvm.MethodName)) ∈ lw_all := lw_g (lw_at lw_m1 162 rfl) rfl
theorem q959 : (Jvm.Cond.selects "CrateDeck$Mount" ({ cls := "java/lang/Object", name := "equals", desc := "(Ljava/lang/Object;)Z" } : Jvm.MethodName) ({ cls := "CrateDeck$Mount", name := "equals", desc := "(Ljava/lang/Object;)Z" } : Jvm.MethodName)) ∈ lw_all := lw_g (lw_at lw_m4 154 rfl) rfl
theorem q960 : (Jvm.Cond.instanceMethod ({ cls := "CrateDeck$Mount", name := "equals", desc := "(Ljava/lang/Object;)Z" } : Jvm.MethodName)) ∈ lw_all := lw_g (lw_at lw_m4 155 rfl) rfl
theorem q961 : (Jvm.Cond.code ({ cls := "CrateDeck$Mount", name := "equals", desc := "(Ljava/lang/Object;)Z" } : Jvm.MethodName) prog_9_method_4_code (2 : Nat) (Option.some Jvm.ClassFile.FieldType.boolean)) ∈ lw_all := lw_g (lw_at lw_m4 156 rfl) rfl
theorem q1017 : (Jvm.Cond.instanceMethod ({ cls := "CrateDeck$Mount", name := "path", desc := "()I" } : Jvm.MethodName)) ∈ lw_all := lw_g (lw_at lw_m4 212 rfl) rfl
theorem q1018 : (Jvm.Cond.selects "CrateDeck$Mount" ({ cls := "CrateDeck$Mount", name := "path", desc := "()I" } : Jvm.MethodName) ({ cls := "CrateDeck$Mount", name := "path", desc := "()I" } : Jvm.MethodName)) ∈ lw_all := lw_g (lw_at lw_m4 213 rfl) rfl
theorem q1019 : (Jvm.Cond.code ({ cls := "CrateDeck$Mount", name := "path", desc := "()I" } : Jvm.MethodName) prog_9_method_5_code (1 : Nat) (Option.some Jvm.ClassFile.FieldType.int)) ∈ lw_all := lw_g (lw_at lw_m4 214 rfl) rfl
theorem q1023 : (Jvm.Cond.instanceMethod ({ cls := "CrateDeck$Mount", name := "volume", desc := "()I" } : Jvm.MethodName)) ∈ lw_all := lw_g (lw_at lw_m4 218 rfl) rfl
theorem q1024 : (Jvm.Cond.selects "CrateDeck$Mount" ({ cls := "CrateDeck$Mount", name := "volume", desc := "()I" } : Jvm.MethodName) ({ cls := "CrateDeck$Mount", name := "volume", desc := "()I" } : Jvm.MethodName)) ∈ lw_all := lw_g (lw_at lw_m4 219 rfl) rfl
theorem q1025 : (Jvm.Cond.code ({ cls := "CrateDeck$Mount", name := "volume", desc := "()I" } : Jvm.MethodName) prog_9_method_6_code (1 : Nat) (Option.some Jvm.ClassFile.FieldType.int)) ∈ lw_all := lw_g (lw_at lw_m4 220 rfl) rfl
theorem q1093 : (Jvm.Cond.instantiable "CrateDeck$Mount" (2 : Nat)) ∈ lw_all := lw_g (lw_at lw_m5 48 rfl) rfl
theorem q1095 : (Jvm.Cond.instanceMethod ({ cls := "CrateDeck$Mount", name := "<init>", desc := "(II)V" } : Jvm.MethodName)) ∈ lw_all := lw_g (lw_at lw_m5 50 rfl) rfl
theorem q1096 : (Jvm.Cond.code ({ cls := "CrateDeck$Mount", name := "<init>", desc := "(II)V" } : Jvm.MethodName) prog_9_method_1_code (3 : Nat) (Option.none : Option Jvm.ClassFile.FieldType)) ∈ lw_all := lw_g (lw_at lw_m5 51 rfl) rfl
theorem q1097 : (Jvm.Cond.methodLink "CrateDeck$Mount" (1 : Nat) ({ cls := "java/lang/Record", name := "<init>", desc := "()V" } : Jvm.MethodName)) ∈ lw_all := lw_g (lw_at lw_m5 52 rfl) rfl
theorem q1098 : (Jvm.Cond.fieldLink "CrateDeck$Mount" (7 : Nat) "CrateDeck$Mount" "path" "I") ∈ lw_all := lw_g (lw_at lw_m5 53 rfl) rfl
theorem q1099 : (Jvm.Cond.fieldLink "CrateDeck$Mount" (13 : Nat) "CrateDeck$Mount" "volume" "I") ∈ lw_all := lw_g (lw_at lw_m5 54 rfl) rfl
theorem q1100 : (Jvm.Cond.laysFinal "CrateDeck$Mount" "CrateDeck$Mount" "path" "I") ∈ lw_all := lw_g (lw_at lw_m5 55 rfl) rfl
theorem q1101 : (Jvm.Cond.soleField "CrateDeck$Mount" "path") ∈ lw_all := lw_g (lw_at lw_m5 56 rfl) rfl
theorem q1102 : (Jvm.Cond.laysFinal "CrateDeck$Mount" "CrateDeck$Mount" "volume" "I") ∈ lw_all := lw_g (lw_at lw_m5 57 rfl) rfl
theorem q1103 : (Jvm.Cond.soleField "CrateDeck$Mount" "volume") ∈ lw_all := lw_g (lw_at lw_m5 58 rfl) rfl
theorem q1104 : (Jvm.Cond.superclass "CrateDeck$Mount" "java/lang/Record") ∈ lw_all := lw_g (lw_at lw_m5 59 rfl) rfl
theorem q2145 : (Jvm.Cond.castable "CrateDeck$Mount" "java/lang/Object") ∈ lw_tbl := lw_at lw_m9 140 rfl
theorem in_X10 : ∀ w ∈ wsX100, w ∈ lw_all := lw_in wsX100 [1100, 1102] (by decide +kernel) (by decide +kernel)

/-! CrateDeck$Range -/
set_option maxRecDepth 100000
def RX11 : String := "CrateDeck$Range"
def TX11 : u_T := fun k => match k with
  | 0 => ("CrateDeck$Range", "inside", "I", true)
  | 1 => ("CrateDeck$Range", "outside", "I", true)
  | _ => ("CrateDeck$Range", "many", "I", true)
def tyX11 : Nat → FieldType := fun k => match k with
  | 0 => .int
  | 1 => .int
  | _ => .int
abbrev wsX110 : List Cond := u_ws RX11 TX11 3
theorem nmX11 : ∀ a, a < 3 → ∀ b, b < 3 → a ≠ b → (TX11 a).2.1 ≠ (TX11 b).2.1 := by decide +kernel
theorem tyX11_ok : ∀ k, k < 3 → parseFieldDescriptor (TX11 k).2.2.1 = some (tyX11 k) := by decide +kernel
abbrev cX11_equals : ByteArray := prog_11_method_5_code
def yX11_equals : MethodName := ⟨RX11, "equals", "(Ljava/lang/Object;)Z"⟩
def dkwX11_equals_0 : List UInt8 := [42, 43, 186, 0, 27, 0, 0, 172]
abbrev dktX11_equals_0 : List UInt8 := dkwX11_equals_0 ++ []
theorem dksX11_equals_0 : cX11_equals.data.toList.drop 0 = dktX11_equals_0 := by decide +kernel
theorem dX11_equals_0 : decode cX11_equals 0 = .ok (.aload_n 0, 1) := dk_42 (dk_at dksX11_equals_0 0 rfl rfl)
theorem dX11_equals_1 : decode cX11_equals 1 = .ok (.aload_n 1, 1) := dk_43 (dk_at dksX11_equals_0 1 rfl rfl)
theorem dX11_equals_2 : decode cX11_equals 2 = .ok (.invokedynamic 27, 5) := by decide +kernel
theorem dX11_equals_7 : decode cX11_equals 7 = .ok (.ireturn, 1) := dk_172 (dk_at dksX11_equals_0 7 rfl rfl)
abbrev cX11_meets : ByteArray := prog_11_method_2_code
def yX11_meets : MethodName := ⟨RX11, "meets", "(III)Z"⟩
def dkwX11_meets_2 : List UInt8 := [42, 180, 0, 13, 28, 29, 96, 162, 0, 7, 4, 167, 0, 4, 3, 172]
abbrev dktX11_meets_2 : List UInt8 := dkwX11_meets_2 ++ []
def dkwX11_meets_1 : List UInt8 := [167, 0, 4, 3, 54, 4, 21, 4, 154, 0, 26, 28, 42, 180, 0, 13, 42, 180, 0, 16, 96, 162, 0, 17]
abbrev dktX11_meets_1 : List UInt8 := dkwX11_meets_1 ++ dktX11_meets_2
def dkwX11_meets_0 : List UInt8 := [27, 42, 180, 0, 7, 42, 180, 0, 16, 96, 162, 0, 17, 42, 180, 0, 7, 27, 29, 96, 162, 0, 7, 4]
abbrev dktX11_meets_0 : List UInt8 := dkwX11_meets_0 ++ dktX11_meets_1
theorem dksX11_meets_0 : cX11_meets.data.toList.drop 0 = dktX11_meets_0 := by decide +kernel
theorem dksX11_meets_1 : cX11_meets.data.toList.drop 24 = dktX11_meets_1 := dk_seg dksX11_meets_0 24 rfl rfl
theorem dksX11_meets_2 : cX11_meets.data.toList.drop 48 = dktX11_meets_2 := dk_seg dksX11_meets_1 24 rfl rfl
theorem dX11_meets_0 : decode cX11_meets 0 = .ok (.iload_n 1, 1) := dk_27 (dk_at dksX11_meets_0 0 rfl rfl)
theorem dX11_meets_1 : decode cX11_meets 1 = .ok (.aload_n 0, 1) := dk_42 (dk_at dksX11_meets_0 1 rfl rfl)
theorem dX11_meets_2 : decode cX11_meets 2 = .ok (.getfield 7, 3) := dk_180 0 7 (dk_at dksX11_meets_0 2 rfl rfl)
theorem dX11_meets_5 : decode cX11_meets 5 = .ok (.aload_n 0, 1) := dk_42 (dk_at dksX11_meets_0 5 rfl rfl)
theorem dX11_meets_6 : decode cX11_meets 6 = .ok (.getfield 16, 3) := dk_180 0 16 (dk_at dksX11_meets_0 6 rfl rfl)
theorem dX11_meets_9 : decode cX11_meets 9 = .ok (.iadd, 1) := dk_96 (dk_at dksX11_meets_0 9 rfl rfl)
theorem dX11_meets_10 : decode cX11_meets 10 = .ok (.if_icmp .ge 17, 3) := dk_162 0 17 (dk_at dksX11_meets_0 10 rfl rfl)
theorem dX11_meets_13 : decode cX11_meets 13 = .ok (.aload_n 0, 1) := dk_42 (dk_at dksX11_meets_0 13 rfl rfl)
theorem dX11_meets_14 : decode cX11_meets 14 = .ok (.getfield 7, 3) := dk_180 0 7 (dk_at dksX11_meets_0 14 rfl rfl)
theorem dX11_meets_17 : decode cX11_meets 17 = .ok (.iload_n 1, 1) := dk_27 (dk_at dksX11_meets_0 17 rfl rfl)
theorem dX11_meets_18 : decode cX11_meets 18 = .ok (.iload_n 3, 1) := dk_29 (dk_at dksX11_meets_0 18 rfl rfl)
theorem dX11_meets_19 : decode cX11_meets 19 = .ok (.iadd, 1) := dk_96 (dk_at dksX11_meets_0 19 rfl rfl)
theorem dX11_meets_20 : decode cX11_meets 20 = .ok (.if_icmp .ge 7, 3) := dk_162 0 7 (dk_at dksX11_meets_0 20 rfl rfl)
theorem dX11_meets_23 : decode cX11_meets 23 = .ok (.iconst 1, 1) := dk_4 (dk_at dksX11_meets_0 23 rfl rfl)
theorem dX11_meets_24 : decode cX11_meets 24 = .ok (.goto 4, 3) := dk_167 0 4 (dk_at dksX11_meets_1 0 rfl rfl)
theorem dX11_meets_27 : decode cX11_meets 27 = .ok (.iconst 0, 1) := dk_3 (dk_at dksX11_meets_1 3 rfl rfl)
theorem dX11_meets_28 : decode cX11_meets 28 = .ok (.istore 4, 2) := dk_54 4 (dk_at dksX11_meets_1 4 rfl rfl)
theorem dX11_meets_30 : decode cX11_meets 30 = .ok (.iload 4, 2) := dk_21 4 (dk_at dksX11_meets_1 6 rfl rfl)
theorem dX11_meets_32 : decode cX11_meets 32 = .ok (.ifCond .ne 26, 3) := dk_154 0 26 (dk_at dksX11_meets_1 8 rfl rfl)
theorem dX11_meets_35 : decode cX11_meets 35 = .ok (.iload_n 2, 1) := dk_28 (dk_at dksX11_meets_1 11 rfl rfl)
theorem dX11_meets_36 : decode cX11_meets 36 = .ok (.aload_n 0, 1) := dk_42 (dk_at dksX11_meets_1 12 rfl rfl)
theorem dX11_meets_37 : decode cX11_meets 37 = .ok (.getfield 13, 3) := dk_180 0 13 (dk_at dksX11_meets_1 13 rfl rfl)
theorem dX11_meets_40 : decode cX11_meets 40 = .ok (.aload_n 0, 1) := dk_42 (dk_at dksX11_meets_1 16 rfl rfl)
theorem dX11_meets_41 : decode cX11_meets 41 = .ok (.getfield 16, 3) := dk_180 0 16 (dk_at dksX11_meets_1 17 rfl rfl)
theorem dX11_meets_44 : decode cX11_meets 44 = .ok (.iadd, 1) := dk_96 (dk_at dksX11_meets_1 20 rfl rfl)
theorem dX11_meets_45 : decode cX11_meets 45 = .ok (.if_icmp .ge 17, 3) := dk_162 0 17 (dk_at dksX11_meets_1 21 rfl rfl)
theorem dX11_meets_48 : decode cX11_meets 48 = .ok (.aload_n 0, 1) := dk_42 (dk_at dksX11_meets_2 0 rfl rfl)
theorem dX11_meets_49 : decode cX11_meets 49 = .ok (.getfield 13, 3) := dk_180 0 13 (dk_at dksX11_meets_2 1 rfl rfl)
theorem dX11_meets_52 : decode cX11_meets 52 = .ok (.iload_n 2, 1) := dk_28 (dk_at dksX11_meets_2 4 rfl rfl)
theorem dX11_meets_53 : decode cX11_meets 53 = .ok (.iload_n 3, 1) := dk_29 (dk_at dksX11_meets_2 5 rfl rfl)
theorem dX11_meets_54 : decode cX11_meets 54 = .ok (.iadd, 1) := dk_96 (dk_at dksX11_meets_2 6 rfl rfl)
theorem dX11_meets_55 : decode cX11_meets 55 = .ok (.if_icmp .ge 7, 3) := dk_162 0 7 (dk_at dksX11_meets_2 7 rfl rfl)
theorem dX11_meets_58 : decode cX11_meets 58 = .ok (.iconst 1, 1) := dk_4 (dk_at dksX11_meets_2 10 rfl rfl)
theorem dX11_meets_59 : decode cX11_meets 59 = .ok (.goto 4, 3) := dk_167 0 4 (dk_at dksX11_meets_2 11 rfl rfl)
theorem dX11_meets_62 : decode cX11_meets 62 = .ok (.iconst 0, 1) := dk_3 (dk_at dksX11_meets_2 14 rfl rfl)
theorem dX11_meets_63 : decode cX11_meets 63 = .ok (.ireturn, 1) := dk_172 (dk_at dksX11_meets_2 15 rfl rfl)
abbrev cX11_init : ByteArray := prog_11_method_1_code
def yX11_init : MethodName := ⟨RX11, "<init>", "(III)V"⟩
def dkwX11_init_0 : List UInt8 := [42, 183, 0, 1, 42, 27, 181, 0, 7, 42, 28, 181, 0, 13, 42, 29, 181, 0, 16, 177]
abbrev dktX11_init_0 : List UInt8 := dkwX11_init_0 ++ []
theorem dksX11_init_0 : cX11_init.data.toList.drop 0 = dktX11_init_0 := by decide +kernel
theorem dX11_init_0 : decode cX11_init 0 = .ok (.aload_n 0, 1) := dk_42 (dk_at dksX11_init_0 0 rfl rfl)
theorem dX11_init_1 : decode cX11_init 1 = .ok (.invokespecial 1, 3) := dk_183 0 1 (dk_at dksX11_init_0 1 rfl rfl)
theorem dX11_init_4 : decode cX11_init 4 = .ok (.aload_n 0, 1) := dk_42 (dk_at dksX11_init_0 4 rfl rfl)
theorem dX11_init_5 : decode cX11_init 5 = .ok (.iload_n 1, 1) := dk_27 (dk_at dksX11_init_0 5 rfl rfl)
theorem dX11_init_6 : decode cX11_init 6 = .ok (.putfield 7, 3) := dk_181 0 7 (dk_at dksX11_init_0 6 rfl rfl)
theorem dX11_init_9 : decode cX11_init 9 = .ok (.aload_n 0, 1) := dk_42 (dk_at dksX11_init_0 9 rfl rfl)
theorem dX11_init_10 : decode cX11_init 10 = .ok (.iload_n 2, 1) := dk_28 (dk_at dksX11_init_0 10 rfl rfl)
theorem dX11_init_11 : decode cX11_init 11 = .ok (.putfield 13, 3) := dk_181 0 13 (dk_at dksX11_init_0 11 rfl rfl)
theorem dX11_init_14 : decode cX11_init 14 = .ok (.aload_n 0, 1) := dk_42 (dk_at dksX11_init_0 14 rfl rfl)
theorem dX11_init_15 : decode cX11_init 15 = .ok (.iload_n 3, 1) := dk_29 (dk_at dksX11_init_0 15 rfl rfl)
theorem dX11_init_16 : decode cX11_init 16 = .ok (.putfield 16, 3) := dk_181 0 16 (dk_at dksX11_init_0 16 rfl rfl)
theorem dX11_init_19 : decode cX11_init 19 = .ok (.return_, 1) := dk_177 (dk_at dksX11_init_0 19 rfl rfl)
abbrev cX11_inside : ByteArray := prog_11_method_6_code
def yX11_inside : MethodName := ⟨RX11, "inside", "()I"⟩
theorem dX11_inside_0 : decode cX11_inside 0 = .ok (.aload_n 0, 1) := by decide +kernel
theorem dX11_inside_1 : decode cX11_inside 1 = .ok (.getfield 7, 3) := by decide +kernel
theorem dX11_inside_4 : decode cX11_inside 4 = .ok (.ireturn, 1) := by decide +kernel
abbrev cX11_many : ByteArray := prog_11_method_8_code
def yX11_many : MethodName := ⟨RX11, "many", "()I"⟩
theorem dX11_many_0 : decode cX11_many 0 = .ok (.aload_n 0, 1) := by decide +kernel
theorem dX11_many_1 : decode cX11_many 1 = .ok (.getfield 16, 3) := by decide +kernel
theorem dX11_many_4 : decode cX11_many 4 = .ok (.ireturn, 1) := by decide +kernel
abbrev cX11_outside : ByteArray := prog_11_method_7_code
def yX11_outside : MethodName := ⟨RX11, "outside", "()I"⟩
theorem dX11_outside_0 : decode cX11_outside 0 = .ok (.aload_n 0, 1) := by decide +kernel
theorem dX11_outside_1 : decode cX11_outside 1 = .ok (.getfield 13, 3) := by decide +kernel
theorem dX11_outside_4 : decode cX11_outside 4 = .ok (.ireturn, 1) := by decide +kernel
theorem q117 : (Jvm.Cond.initialized "CrateDeck$Range") ∈ lw_all := lw_g (lw_at lw_m1 32 rfl) rfl
theorem q249 : (Jvm.Cond.selects "CrateDeck$Range" ({ cls := "java/lang/Object", name := "getClass", desc := "()Ljava/lang/Class;" } : Jvm.MethodName) ({ cls := "java/lang/Object", name := "getClass", desc := "()Ljava/lang/Class;" } : Jvm.MethodName)) ∈ lw_all := lw_g (lw_at lw_m1 164 rfl) rfl
theorem q963 : (Jvm.Cond.selects "CrateDeck$Range" ({ cls := "java/lang/Object", name := "equals", desc := "(Ljava/lang/Object;)Z" } : Jvm.MethodName) ({ cls := "CrateDeck$Range", name := "equals", desc := "(Ljava/lang/Object;)Z" } : Jvm.MethodName)) ∈ lw_all := lw_g (lw_at lw_m4 158 rfl) rfl
theorem q964 : (Jvm.Cond.instanceMethod ({ cls := "CrateDeck$Range", name := "equals", desc := "(Ljava/lang/Object;)Z" } : Jvm.MethodName)) ∈ lw_all := lw_g (lw_at lw_m4 159 rfl) rfl
theorem q965 : (Jvm.Cond.code ({ cls := "CrateDeck$Range", name := "equals", desc := "(Ljava/lang/Object;)Z" } : Jvm.MethodName) prog_11_method_5_code (2 : Nat) (Option.some Jvm.ClassFile.FieldType.boolean)) ∈ lw_all := lw_g (lw_at lw_m4 160 rfl) rfl
theorem q1133 : (Jvm.Cond.instanceMethod ({ cls := "CrateDeck$Range", name := "meets", desc := "(III)Z" } : Jvm.MethodName)) ∈ lw_all := lw_g (lw_at lw_m5 88 rfl) rfl
theorem q1134 : (Jvm.Cond.selects "CrateDeck$Range" ({ cls := "CrateDeck$Range", name := "meets", desc := "(III)Z" } : Jvm.MethodName) ({ cls := "CrateDeck$Range", name := "meets", desc := "(III)Z" } : Jvm.MethodName)) ∈ lw_all := lw_g (lw_at lw_m5 89 rfl) rfl
theorem q1135 : (Jvm.Cond.code ({ cls := "CrateDeck$Range", name := "meets", desc := "(III)Z" } : Jvm.MethodName) prog_11_method_2_code (5 : Nat) (Option.some Jvm.ClassFile.FieldType.boolean)) ∈ lw_all := lw_g (lw_at lw_m5 90 rfl) rfl
theorem q1136 : (Jvm.Cond.instantiable "CrateDeck$Range" (3 : Nat)) ∈ lw_all := lw_g (lw_at lw_m5 91 rfl) rfl
theorem q1138 : (Jvm.Cond.instanceMethod ({ cls := "CrateDeck$Range", name := "<init>", desc := "(III)V" } : Jvm.MethodName)) ∈ lw_all := lw_g (lw_at lw_m5 93 rfl) rfl
theorem q1139 : (Jvm.Cond.code ({ cls := "CrateDeck$Range", name := "<init>", desc := "(III)V" } : Jvm.MethodName) prog_11_method_1_code (4 : Nat) (Option.none : Option Jvm.ClassFile.FieldType)) ∈ lw_all := lw_g (lw_at lw_m5 94 rfl) rfl
theorem q1140 : (Jvm.Cond.methodLink "CrateDeck$Range" (1 : Nat) ({ cls := "java/lang/Record", name := "<init>", desc := "()V" } : Jvm.MethodName)) ∈ lw_all := lw_g (lw_at lw_m5 95 rfl) rfl
theorem q1141 : (Jvm.Cond.fieldLink "CrateDeck$Range" (7 : Nat) "CrateDeck$Range" "inside" "I") ∈ lw_all := lw_g (lw_at lw_m5 96 rfl) rfl
theorem q1142 : (Jvm.Cond.fieldLink "CrateDeck$Range" (13 : Nat) "CrateDeck$Range" "outside" "I") ∈ lw_all := lw_g (lw_at lw_m5 97 rfl) rfl
theorem q1143 : (Jvm.Cond.fieldLink "CrateDeck$Range" (16 : Nat) "CrateDeck$Range" "many" "I") ∈ lw_all := lw_g (lw_at lw_m5 98 rfl) rfl
theorem q1144 : (Jvm.Cond.laysFinal "CrateDeck$Range" "CrateDeck$Range" "inside" "I") ∈ lw_all := lw_g (lw_at lw_m5 99 rfl) rfl
theorem q1145 : (Jvm.Cond.soleField "CrateDeck$Range" "inside") ∈ lw_all := lw_g (lw_at lw_m5 100 rfl) rfl
theorem q1146 : (Jvm.Cond.laysFinal "CrateDeck$Range" "CrateDeck$Range" "outside" "I") ∈ lw_all := lw_g (lw_at lw_m5 101 rfl) rfl
theorem q1147 : (Jvm.Cond.soleField "CrateDeck$Range" "outside") ∈ lw_all := lw_g (lw_at lw_m5 102 rfl) rfl
theorem q1148 : (Jvm.Cond.laysFinal "CrateDeck$Range" "CrateDeck$Range" "many" "I") ∈ lw_all := lw_g (lw_at lw_m5 103 rfl) rfl
theorem q1149 : (Jvm.Cond.soleField "CrateDeck$Range" "many") ∈ lw_all := lw_g (lw_at lw_m5 104 rfl) rfl
theorem q1150 : (Jvm.Cond.superclass "CrateDeck$Range" "java/lang/Record") ∈ lw_all := lw_g (lw_at lw_m5 105 rfl) rfl
theorem q1168 : (Jvm.Cond.instanceMethod ({ cls := "CrateDeck$Range", name := "inside", desc := "()I" } : Jvm.MethodName)) ∈ lw_all := lw_g (lw_at lw_m5 123 rfl) rfl
theorem q1169 : (Jvm.Cond.selects "CrateDeck$Range" ({ cls := "CrateDeck$Range", name := "inside", desc := "()I" } : Jvm.MethodName) ({ cls := "CrateDeck$Range", name := "inside", desc := "()I" } : Jvm.MethodName)) ∈ lw_all := lw_g (lw_at lw_m5 124 rfl) rfl
theorem q1170 : (Jvm.Cond.code ({ cls := "CrateDeck$Range", name := "inside", desc := "()I" } : Jvm.MethodName) prog_11_method_6_code (1 : Nat) (Option.some Jvm.ClassFile.FieldType.int)) ∈ lw_all := lw_g (lw_at lw_m5 125 rfl) rfl
theorem q1172 : (Jvm.Cond.instanceMethod ({ cls := "CrateDeck$Range", name := "many", desc := "()I" } : Jvm.MethodName)) ∈ lw_all := lw_g (lw_at lw_m5 127 rfl) rfl
theorem q1173 : (Jvm.Cond.selects "CrateDeck$Range" ({ cls := "CrateDeck$Range", name := "many", desc := "()I" } : Jvm.MethodName) ({ cls := "CrateDeck$Range", name := "many", desc := "()I" } : Jvm.MethodName)) ∈ lw_all := lw_g (lw_at lw_m5 128 rfl) rfl
theorem q1174 : (Jvm.Cond.code ({ cls := "CrateDeck$Range", name := "many", desc := "()I" } : Jvm.MethodName) prog_11_method_8_code (1 : Nat) (Option.some Jvm.ClassFile.FieldType.int)) ∈ lw_all := lw_g (lw_at lw_m5 129 rfl) rfl
theorem q1176 : (Jvm.Cond.instanceMethod ({ cls := "CrateDeck$Range", name := "outside", desc := "()I" } : Jvm.MethodName)) ∈ lw_all := lw_g (lw_at lw_m5 131 rfl) rfl
theorem q1177 : (Jvm.Cond.selects "CrateDeck$Range" ({ cls := "CrateDeck$Range", name := "outside", desc := "()I" } : Jvm.MethodName) ({ cls := "CrateDeck$Range", name := "outside", desc := "()I" } : Jvm.MethodName)) ∈ lw_all := lw_g (lw_at lw_m5 132 rfl) rfl
theorem q1178 : (Jvm.Cond.code ({ cls := "CrateDeck$Range", name := "outside", desc := "()I" } : Jvm.MethodName) prog_11_method_7_code (1 : Nat) (Option.some Jvm.ClassFile.FieldType.int)) ∈ lw_all := lw_g (lw_at lw_m5 133 rfl) rfl
theorem q2146 : (Jvm.Cond.castable "CrateDeck$Range" "java/lang/Object") ∈ lw_tbl := lw_at lw_m9 141 rfl
theorem in_X11 : ∀ w ∈ wsX110, w ∈ lw_all := lw_in wsX110 [1144, 1146, 1148] (by decide +kernel) (by decide +kernel)

/-! CrateDeck$Process -/
set_option maxRecDepth 100000
def RX12 : String := "CrateDeck$Process"
def TX12 : u_T := fun k => match k with
  | 0 => ("CrateDeck$Process", "number", "I", true)
  | 1 => ("CrateDeck$Process", "container", "I", true)
  | 2 => ("CrateDeck$Process", "group", "I", true)
  | _ => ("CrateDeck$Process", "memory", "I", false)
def tyX12 : Nat → FieldType := fun k => match k with
  | 0 => .int
  | 1 => .int
  | 2 => .int
  | _ => .int
abbrev wsX120 : List Cond := u_ws RX12 TX12 4
theorem nmX12 : ∀ a, a < 4 → ∀ b, b < 4 → a ≠ b → (TX12 a).2.1 ≠ (TX12 b).2.1 := by decide +kernel
theorem tyX12_ok : ∀ k, k < 4 → parseFieldDescriptor (TX12 k).2.2.1 = some (tyX12 k) := by decide +kernel
abbrev cX12_init : ByteArray := prog_10_method_1_code
def yX12_init : MethodName := ⟨RX12, "<init>", "(III)V"⟩
def dkwX12_init_0 : List UInt8 := [42, 183, 0, 1, 42, 27, 181, 0, 7, 42, 28, 181, 0, 13, 42, 29, 181, 0, 16, 177]
abbrev dktX12_init_0 : List UInt8 := dkwX12_init_0 ++ []
theorem dksX12_init_0 : cX12_init.data.toList.drop 0 = dktX12_init_0 := by decide +kernel
theorem dX12_init_0 : decode cX12_init 0 = .ok (.aload_n 0, 1) := dk_42 (dk_at dksX12_init_0 0 rfl rfl)
theorem dX12_init_1 : decode cX12_init 1 = .ok (.invokespecial 1, 3) := dk_183 0 1 (dk_at dksX12_init_0 1 rfl rfl)
theorem dX12_init_4 : decode cX12_init 4 = .ok (.aload_n 0, 1) := dk_42 (dk_at dksX12_init_0 4 rfl rfl)
theorem dX12_init_5 : decode cX12_init 5 = .ok (.iload_n 1, 1) := dk_27 (dk_at dksX12_init_0 5 rfl rfl)
theorem dX12_init_6 : decode cX12_init 6 = .ok (.putfield 7, 3) := dk_181 0 7 (dk_at dksX12_init_0 6 rfl rfl)
theorem dX12_init_9 : decode cX12_init 9 = .ok (.aload_n 0, 1) := dk_42 (dk_at dksX12_init_0 9 rfl rfl)
theorem dX12_init_10 : decode cX12_init 10 = .ok (.iload_n 2, 1) := dk_28 (dk_at dksX12_init_0 10 rfl rfl)
theorem dX12_init_11 : decode cX12_init 11 = .ok (.putfield 13, 3) := dk_181 0 13 (dk_at dksX12_init_0 11 rfl rfl)
theorem dX12_init_14 : decode cX12_init 14 = .ok (.aload_n 0, 1) := dk_42 (dk_at dksX12_init_0 14 rfl rfl)
theorem dX12_init_15 : decode cX12_init 15 = .ok (.iload_n 3, 1) := dk_29 (dk_at dksX12_init_0 15 rfl rfl)
theorem dX12_init_16 : decode cX12_init 16 = .ok (.putfield 16, 3) := dk_181 0 16 (dk_at dksX12_init_0 16 rfl rfl)
theorem dX12_init_19 : decode cX12_init 19 = .ok (.return_, 1) := dk_177 (dk_at dksX12_init_0 19 rfl rfl)
theorem q118 : (Jvm.Cond.initialized "CrateDeck$Process") ∈ lw_all := lw_g (lw_at lw_m1 33 rfl) rfl
theorem q248 : (Jvm.Cond.selects "CrateDeck$Process" ({ cls := "java/lang/Object", name := "getClass", desc := "()Ljava/lang/Class;" } : Jvm.MethodName) ({ cls := "java/lang/Object", name := "getClass", desc := "()Ljava/lang/Class;" } : Jvm.MethodName)) ∈ lw_all := lw_g (lw_at lw_m1 163 rfl) rfl
theorem q962 : (Jvm.Cond.selects "CrateDeck$Process" ({ cls := "java/lang/Object", name := "equals", desc := "(Ljava/lang/Object;)Z" } : Jvm.MethodName) ({ cls := "java/lang/Object", name := "equals", desc := "(Ljava/lang/Object;)Z" } : Jvm.MethodName)) ∈ lw_all := lw_g (lw_at lw_m4 157 rfl) rfl
theorem q1212 : (Jvm.Cond.instantiable "CrateDeck$Process" (4 : Nat)) ∈ lw_all := lw_g (lw_at lw_m5 167 rfl) rfl
theorem q1214 : (Jvm.Cond.instanceMethod ({ cls := "CrateDeck$Process", name := "<init>", desc := "(III)V" } : Jvm.MethodName)) ∈ lw_all := lw_g (lw_at lw_m5 169 rfl) rfl
theorem q1215 : (Jvm.Cond.code ({ cls := "CrateDeck$Process", name := "<init>", desc := "(III)V" } : Jvm.MethodName) prog_10_method_1_code (4 : Nat) (Option.none : Option Jvm.ClassFile.FieldType)) ∈ lw_all := lw_g (lw_at lw_m5 170 rfl) rfl
theorem q1216 : (Jvm.Cond.methodLink "CrateDeck$Process" (1 : Nat) ({ cls := "java/lang/Object", name := "<init>", desc := "()V" } : Jvm.MethodName)) ∈ lw_all := lw_g (lw_at lw_m5 171 rfl) rfl
theorem q1217 : (Jvm.Cond.fieldLink "CrateDeck$Process" (7 : Nat) "CrateDeck$Process" "number" "I") ∈ lw_all := lw_g (lw_at lw_m5 172 rfl) rfl
theorem q1219 : (Jvm.Cond.fieldLink "CrateDeck$Process" (13 : Nat) "CrateDeck$Process" "container" "I") ∈ lw_all := lw_g (lw_at lw_m5 174 rfl) rfl
theorem q1221 : (Jvm.Cond.fieldLink "CrateDeck$Process" (16 : Nat) "CrateDeck$Process" "group" "I") ∈ lw_all := lw_g (lw_at lw_m5 176 rfl) rfl
theorem q1224 : (Jvm.Cond.laysFinal "CrateDeck$Process" "CrateDeck$Process" "number" "I") ∈ lw_all := lw_g (lw_at lw_m5 179 rfl) rfl
theorem q1225 : (Jvm.Cond.soleField "CrateDeck$Process" "number") ∈ lw_all := lw_g (lw_at lw_m5 180 rfl) rfl
theorem q1226 : (Jvm.Cond.laysFinal "CrateDeck$Process" "CrateDeck$Process" "container" "I") ∈ lw_all := lw_g (lw_at lw_m5 181 rfl) rfl
theorem q1227 : (Jvm.Cond.soleField "CrateDeck$Process" "container") ∈ lw_all := lw_g (lw_at lw_m5 182 rfl) rfl
theorem q1228 : (Jvm.Cond.laysFinal "CrateDeck$Process" "CrateDeck$Process" "group" "I") ∈ lw_all := lw_g (lw_at lw_m5 183 rfl) rfl
theorem q1229 : (Jvm.Cond.soleField "CrateDeck$Process" "group") ∈ lw_all := lw_g (lw_at lw_m5 184 rfl) rfl
theorem q1230 : (Jvm.Cond.lays "CrateDeck$Process" "CrateDeck$Process" "memory" "I") ∈ lw_all := lw_g (lw_at lw_m5 185 rfl) rfl
theorem q1231 : (Jvm.Cond.soleField "CrateDeck$Process" "memory") ∈ lw_all := lw_g (lw_at lw_m5 186 rfl) rfl
theorem q1232 : (Jvm.Cond.superclass "CrateDeck$Process" "java/lang/Object") ∈ lw_all := lw_g (lw_at lw_m5 187 rfl) rfl
theorem q2147 : (Jvm.Cond.castable "CrateDeck$Process" "java/lang/Object") ∈ lw_tbl := lw_at lw_m9 142 rfl
theorem in_X12 : ∀ w ∈ wsX120, w ∈ lw_all := lw_in wsX120 [1224, 1226, 1228, 1230] (by decide +kernel) (by decide +kernel)

/-! CrateDeck$Filter -/
set_option maxRecDepth 100000
def RX13 : String := "CrateDeck$Filter"
def TX13 : u_T := fun k => match k with
  | 0 => ("CrateDeck$Filter", "denied", "I", true)
  | _ => ("CrateDeck$Filter", "kills", "I", true)
def tyX13 : Nat → FieldType := fun k => match k with
  | 0 => .int
  | _ => .int
abbrev wsX130 : List Cond := u_ws RX13 TX13 2
theorem nmX13 : ∀ a, a < 2 → ∀ b, b < 2 → a ≠ b → (TX13 a).2.1 ≠ (TX13 b).2.1 := by decide +kernel
theorem tyX13_ok : ∀ k, k < 2 → parseFieldDescriptor (TX13 k).2.2.1 = some (tyX13 k) := by decide +kernel
abbrev cX13_equals : ByteArray := prog_4_method_4_code
def yX13_equals : MethodName := ⟨RX13, "equals", "(Ljava/lang/Object;)Z"⟩
def dkwX13_equals_0 : List UInt8 := [42, 43, 186, 0, 24, 0, 0, 172]
abbrev dktX13_equals_0 : List UInt8 := dkwX13_equals_0 ++ []
theorem dksX13_equals_0 : cX13_equals.data.toList.drop 0 = dktX13_equals_0 := by decide +kernel
theorem dX13_equals_0 : decode cX13_equals 0 = .ok (.aload_n 0, 1) := dk_42 (dk_at dksX13_equals_0 0 rfl rfl)
theorem dX13_equals_1 : decode cX13_equals 1 = .ok (.aload_n 1, 1) := dk_43 (dk_at dksX13_equals_0 1 rfl rfl)
theorem dX13_equals_2 : decode cX13_equals 2 = .ok (.invokedynamic 24, 5) := by decide +kernel
theorem dX13_equals_7 : decode cX13_equals 7 = .ok (.ireturn, 1) := dk_172 (dk_at dksX13_equals_0 7 rfl rfl)
abbrev cX13_init : ByteArray := prog_4_method_1_code
def yX13_init : MethodName := ⟨RX13, "<init>", "(II)V"⟩
def dkwX13_init_0 : List UInt8 := [42, 183, 0, 1, 42, 27, 181, 0, 7, 42, 28, 181, 0, 13, 177]
abbrev dktX13_init_0 : List UInt8 := dkwX13_init_0 ++ []
theorem dksX13_init_0 : cX13_init.data.toList.drop 0 = dktX13_init_0 := by decide +kernel
theorem dX13_init_0 : decode cX13_init 0 = .ok (.aload_n 0, 1) := dk_42 (dk_at dksX13_init_0 0 rfl rfl)
theorem dX13_init_1 : decode cX13_init 1 = .ok (.invokespecial 1, 3) := dk_183 0 1 (dk_at dksX13_init_0 1 rfl rfl)
theorem dX13_init_4 : decode cX13_init 4 = .ok (.aload_n 0, 1) := dk_42 (dk_at dksX13_init_0 4 rfl rfl)
theorem dX13_init_5 : decode cX13_init 5 = .ok (.iload_n 1, 1) := dk_27 (dk_at dksX13_init_0 5 rfl rfl)
theorem dX13_init_6 : decode cX13_init 6 = .ok (.putfield 7, 3) := dk_181 0 7 (dk_at dksX13_init_0 6 rfl rfl)
theorem dX13_init_9 : decode cX13_init 9 = .ok (.aload_n 0, 1) := dk_42 (dk_at dksX13_init_0 9 rfl rfl)
theorem dX13_init_10 : decode cX13_init 10 = .ok (.iload_n 2, 1) := dk_28 (dk_at dksX13_init_0 10 rfl rfl)
theorem dX13_init_11 : decode cX13_init 11 = .ok (.putfield 13, 3) := dk_181 0 13 (dk_at dksX13_init_0 11 rfl rfl)
theorem dX13_init_14 : decode cX13_init 14 = .ok (.return_, 1) := dk_177 (dk_at dksX13_init_0 14 rfl rfl)
abbrev cX13_denied : ByteArray := prog_4_method_5_code
def yX13_denied : MethodName := ⟨RX13, "denied", "()I"⟩
theorem dX13_denied_0 : decode cX13_denied 0 = .ok (.aload_n 0, 1) := by decide +kernel
theorem dX13_denied_1 : decode cX13_denied 1 = .ok (.getfield 7, 3) := by decide +kernel
theorem dX13_denied_4 : decode cX13_denied 4 = .ok (.ireturn, 1) := by decide +kernel
abbrev cX13_kills : ByteArray := prog_4_method_6_code
def yX13_kills : MethodName := ⟨RX13, "kills", "()I"⟩
theorem dX13_kills_0 : decode cX13_kills 0 = .ok (.aload_n 0, 1) := by decide +kernel
theorem dX13_kills_1 : decode cX13_kills 1 = .ok (.getfield 13, 3) := by decide +kernel
theorem dX13_kills_4 : decode cX13_kills 4 = .ok (.ireturn, 1) := by decide +kernel
theorem q119 : (Jvm.Cond.initialized "CrateDeck$Filter") ∈ lw_all := lw_g (lw_at lw_m1 34 rfl) rfl
theorem q242 : (Jvm.Cond.selects "CrateDeck$Filter" ({ cls := "java/lang/Object", name := "getClass", desc := "()Ljava/lang/Class;" } : Jvm.MethodName) ({ cls := "java/lang/Object", name := "getClass", desc := "()Ljava/lang/Class;" } : Jvm.MethodName)) ∈ lw_all := lw_g (lw_at lw_m1 157 rfl) rfl
theorem q952 : (Jvm.Cond.selects "CrateDeck$Filter" ({ cls := "java/lang/Object", name := "equals", desc := "(Ljava/lang/Object;)Z" } : Jvm.MethodName) ({ cls := "CrateDeck$Filter", name := "equals", desc := "(Ljava/lang/Object;)Z" } : Jvm.MethodName)) ∈ lw_all := lw_g (lw_at lw_m4 147 rfl) rfl
theorem q953 : (Jvm.Cond.instanceMethod ({ cls := "CrateDeck$Filter", name := "equals", desc := "(Ljava/lang/Object;)Z" } : Jvm.MethodName)) ∈ lw_all := lw_g (lw_at lw_m4 148 rfl) rfl
theorem q954 : (Jvm.Cond.code ({ cls := "CrateDeck$Filter", name := "equals", desc := "(Ljava/lang/Object;)Z" } : Jvm.MethodName) prog_4_method_4_code (2 : Nat) (Option.some Jvm.ClassFile.FieldType.boolean)) ∈ lw_all := lw_g (lw_at lw_m4 149 rfl) rfl
theorem q1287 : (Jvm.Cond.instantiable "CrateDeck$Filter" (2 : Nat)) ∈ lw_all := lw_g (lw_at lw_m6 2 rfl) rfl
theorem q1289 : (Jvm.Cond.instanceMethod ({ cls := "CrateDeck$Filter", name := "<init>", desc := "(II)V" } : Jvm.MethodName)) ∈ lw_all := lw_g (lw_at lw_m6 4 rfl) rfl
theorem q1290 : (Jvm.Cond.code ({ cls := "CrateDeck$Filter", name := "<init>", desc := "(II)V" } : Jvm.MethodName) prog_4_method_1_code (3 : Nat) (Option.none : Option Jvm.ClassFile.FieldType)) ∈ lw_all := lw_g (lw_at lw_m6 5 rfl) rfl
theorem q1291 : (Jvm.Cond.methodLink "CrateDeck$Filter" (1 : Nat) ({ cls := "java/lang/Record", name := "<init>", desc := "()V" } : Jvm.MethodName)) ∈ lw_all := lw_g (lw_at lw_m6 6 rfl) rfl
theorem q1292 : (Jvm.Cond.fieldLink "CrateDeck$Filter" (7 : Nat) "CrateDeck$Filter" "denied" "I") ∈ lw_all := lw_g (lw_at lw_m6 7 rfl) rfl
theorem q1293 : (Jvm.Cond.fieldLink "CrateDeck$Filter" (13 : Nat) "CrateDeck$Filter" "kills" "I") ∈ lw_all := lw_g (lw_at lw_m6 8 rfl) rfl
theorem q1294 : (Jvm.Cond.laysFinal "CrateDeck$Filter" "CrateDeck$Filter" "denied" "I") ∈ lw_all := lw_g (lw_at lw_m6 9 rfl) rfl
theorem q1295 : (Jvm.Cond.soleField "CrateDeck$Filter" "denied") ∈ lw_all := lw_g (lw_at lw_m6 10 rfl) rfl
theorem q1296 : (Jvm.Cond.laysFinal "CrateDeck$Filter" "CrateDeck$Filter" "kills" "I") ∈ lw_all := lw_g (lw_at lw_m6 11 rfl) rfl
theorem q1297 : (Jvm.Cond.soleField "CrateDeck$Filter" "kills") ∈ lw_all := lw_g (lw_at lw_m6 12 rfl) rfl
theorem q1298 : (Jvm.Cond.superclass "CrateDeck$Filter" "java/lang/Record") ∈ lw_all := lw_g (lw_at lw_m6 13 rfl) rfl
theorem q1307 : (Jvm.Cond.instanceMethod ({ cls := "CrateDeck$Filter", name := "denied", desc := "()I" } : Jvm.MethodName)) ∈ lw_all := lw_g (lw_at lw_m6 22 rfl) rfl
theorem q1308 : (Jvm.Cond.selects "CrateDeck$Filter" ({ cls := "CrateDeck$Filter", name := "denied", desc := "()I" } : Jvm.MethodName) ({ cls := "CrateDeck$Filter", name := "denied", desc := "()I" } : Jvm.MethodName)) ∈ lw_all := lw_g (lw_at lw_m6 23 rfl) rfl
theorem q1309 : (Jvm.Cond.code ({ cls := "CrateDeck$Filter", name := "denied", desc := "()I" } : Jvm.MethodName) prog_4_method_5_code (1 : Nat) (Option.some Jvm.ClassFile.FieldType.int)) ∈ lw_all := lw_g (lw_at lw_m6 24 rfl) rfl
theorem q1311 : (Jvm.Cond.instanceMethod ({ cls := "CrateDeck$Filter", name := "kills", desc := "()I" } : Jvm.MethodName)) ∈ lw_all := lw_g (lw_at lw_m6 26 rfl) rfl
theorem q1312 : (Jvm.Cond.selects "CrateDeck$Filter" ({ cls := "CrateDeck$Filter", name := "kills", desc := "()I" } : Jvm.MethodName) ({ cls := "CrateDeck$Filter", name := "kills", desc := "()I" } : Jvm.MethodName)) ∈ lw_all := lw_g (lw_at lw_m6 27 rfl) rfl
theorem q1313 : (Jvm.Cond.code ({ cls := "CrateDeck$Filter", name := "kills", desc := "()I" } : Jvm.MethodName) prog_4_method_6_code (1 : Nat) (Option.some Jvm.ClassFile.FieldType.int)) ∈ lw_all := lw_g (lw_at lw_m6 28 rfl) rfl
theorem q2148 : (Jvm.Cond.castable "CrateDeck$Filter" "java/lang/Object") ∈ lw_tbl := lw_at lw_m9 143 rfl
theorem in_X13 : ∀ w ∈ wsX130, w ∈ lw_all := lw_in wsX130 [1294, 1296] (by decide +kernel) (by decide +kernel)

/-! CrateDeck$Forward -/
set_option maxRecDepth 100000
def RX14 : String := "CrateDeck$Forward"
def TX14 : u_T := fun k => match k with
  | 0 => ("CrateDeck$Forward", "container", "I", true)
  | _ => ("CrateDeck$Forward", "to", "I", true)
def tyX14 : Nat → FieldType := fun k => match k with
  | 0 => .int
  | _ => .int
abbrev wsX140 : List Cond := u_ws RX14 TX14 2
theorem nmX14 : ∀ a, a < 2 → ∀ b, b < 2 → a ≠ b → (TX14 a).2.1 ≠ (TX14 b).2.1 := by decide +kernel
theorem tyX14_ok : ∀ k, k < 2 → parseFieldDescriptor (TX14 k).2.2.1 = some (tyX14 k) := by decide +kernel
abbrev cX14_init : ByteArray := prog_5_method_1_code
def yX14_init : MethodName := ⟨RX14, "<init>", "(II)V"⟩
def dkwX14_init_0 : List UInt8 := [42, 183, 0, 1, 42, 27, 181, 0, 7, 42, 28, 181, 0, 13, 177]
abbrev dktX14_init_0 : List UInt8 := dkwX14_init_0 ++ []
theorem dksX14_init_0 : cX14_init.data.toList.drop 0 = dktX14_init_0 := by decide +kernel
theorem dX14_init_0 : decode cX14_init 0 = .ok (.aload_n 0, 1) := dk_42 (dk_at dksX14_init_0 0 rfl rfl)
theorem dX14_init_1 : decode cX14_init 1 = .ok (.invokespecial 1, 3) := dk_183 0 1 (dk_at dksX14_init_0 1 rfl rfl)
theorem dX14_init_4 : decode cX14_init 4 = .ok (.aload_n 0, 1) := dk_42 (dk_at dksX14_init_0 4 rfl rfl)
theorem dX14_init_5 : decode cX14_init 5 = .ok (.iload_n 1, 1) := dk_27 (dk_at dksX14_init_0 5 rfl rfl)
theorem dX14_init_6 : decode cX14_init 6 = .ok (.putfield 7, 3) := dk_181 0 7 (dk_at dksX14_init_0 6 rfl rfl)
theorem dX14_init_9 : decode cX14_init 9 = .ok (.aload_n 0, 1) := dk_42 (dk_at dksX14_init_0 9 rfl rfl)
theorem dX14_init_10 : decode cX14_init 10 = .ok (.iload_n 2, 1) := dk_28 (dk_at dksX14_init_0 10 rfl rfl)
theorem dX14_init_11 : decode cX14_init 11 = .ok (.putfield 13, 3) := dk_181 0 13 (dk_at dksX14_init_0 11 rfl rfl)
theorem dX14_init_14 : decode cX14_init 14 = .ok (.return_, 1) := dk_177 (dk_at dksX14_init_0 14 rfl rfl)
theorem q120 : (Jvm.Cond.initialized "CrateDeck$Forward") ∈ lw_all := lw_g (lw_at lw_m1 35 rfl) rfl
theorem q243 : (Jvm.Cond.selects "CrateDeck$Forward" ({ cls := "java/lang/Object", name := "getClass", desc := "()Ljava/lang/Class;" } : Jvm.MethodName) ({ cls := "java/lang/Object", name := "getClass", desc := "()Ljava/lang/Class;" } : Jvm.MethodName)) ∈ lw_all := lw_g (lw_at lw_m1 158 rfl) rfl
theorem q955 : (Jvm.Cond.selects "CrateDeck$Forward" ({ cls := "java/lang/Object", name := "equals", desc := "(Ljava/lang/Object;)Z" } : Jvm.MethodName) ({ cls := "java/lang/Object", name := "equals", desc := "(Ljava/lang/Object;)Z" } : Jvm.MethodName)) ∈ lw_all := lw_g (lw_at lw_m4 150 rfl) rfl
theorem q1350 : (Jvm.Cond.instantiable "CrateDeck$Forward" (2 : Nat)) ∈ lw_all := lw_g (lw_at lw_m6 65 rfl) rfl
theorem q1352 : (Jvm.Cond.instanceMethod ({ cls := "CrateDeck$Forward", name := "<init>", desc := "(II)V" } : Jvm.MethodName)) ∈ lw_all := lw_g (lw_at lw_m6 67 rfl) rfl
theorem q1353 : (Jvm.Cond.code ({ cls := "CrateDeck$Forward", name := "<init>", desc := "(II)V" } : Jvm.MethodName) prog_5_method_1_code (3 : Nat) (Option.none : Option Jvm.ClassFile.FieldType)) ∈ lw_all := lw_g (lw_at lw_m6 68 rfl) rfl
theorem q1354 : (Jvm.Cond.methodLink "CrateDeck$Forward" (1 : Nat) ({ cls := "java/lang/Object", name := "<init>", desc := "()V" } : Jvm.MethodName)) ∈ lw_all := lw_g (lw_at lw_m6 69 rfl) rfl
theorem q1355 : (Jvm.Cond.fieldLink "CrateDeck$Forward" (7 : Nat) "CrateDeck$Forward" "container" "I") ∈ lw_all := lw_g (lw_at lw_m6 70 rfl) rfl
theorem q1357 : (Jvm.Cond.fieldLink "CrateDeck$Forward" (13 : Nat) "CrateDeck$Forward" "to" "I") ∈ lw_all := lw_g (lw_at lw_m6 72 rfl) rfl
theorem q1359 : (Jvm.Cond.laysFinal "CrateDeck$Forward" "CrateDeck$Forward" "container" "I") ∈ lw_all := lw_g (lw_at lw_m6 74 rfl) rfl
theorem q1360 : (Jvm.Cond.soleField "CrateDeck$Forward" "container") ∈ lw_all := lw_g (lw_at lw_m6 75 rfl) rfl
theorem q1361 : (Jvm.Cond.laysFinal "CrateDeck$Forward" "CrateDeck$Forward" "to" "I") ∈ lw_all := lw_g (lw_at lw_m6 76 rfl) rfl
theorem q1362 : (Jvm.Cond.soleField "CrateDeck$Forward" "to") ∈ lw_all := lw_g (lw_at lw_m6 77 rfl) rfl
theorem q1363 : (Jvm.Cond.superclass "CrateDeck$Forward" "java/lang/Object") ∈ lw_all := lw_g (lw_at lw_m6 78 rfl) rfl
theorem q2129 : (Jvm.Cond.castable "CrateDeck$Forward" "java/lang/Object") ∈ lw_tbl := lw_at lw_m9 124 rfl
theorem in_X14 : ∀ w ∈ wsX140, w ∈ lw_all := lw_in wsX140 [1359, 1361] (by decide +kernel) (by decide +kernel)

/-! CrateDeck$Step -/
set_option maxRecDepth 100000
def RX15 : String := "CrateDeck$Step"
def TX15 : u_T := fun k => match k with
  | 0 => ("CrateDeck$Step", "image", "I", true)
  | 1 => ("CrateDeck$Step", "number", "I", true)
  | 2 => ("CrateDeck$Step", "reads", "I", true)
  | 3 => ("CrateDeck$Step", "writes", "I", true)
  | 4 => ("CrateDeck$Step", "content", "I", true)
  | _ => ("CrateDeck$Step", "made", "I", true)
def tyX15 : Nat → FieldType := fun k => match k with
  | 0 => .int
  | 1 => .int
  | 2 => .int
  | 3 => .int
  | 4 => .int
  | _ => .int
abbrev wsX150 : List Cond := u_ws RX15 TX15 6
theorem nmX15 : ∀ a, a < 6 → ∀ b, b < 6 → a ≠ b → (TX15 a).2.1 ≠ (TX15 b).2.1 := by decide +kernel
theorem tyX15_ok : ∀ k, k < 6 → parseFieldDescriptor (TX15 k).2.2.1 = some (tyX15 k) := by decide +kernel
abbrev cX15_equals : ByteArray := prog_13_method_4_code
def yX15_equals : MethodName := ⟨RX15, "equals", "(Ljava/lang/Object;)Z"⟩
def dkwX15_equals_0 : List UInt8 := [42, 43, 186, 0, 36, 0, 0, 172]
abbrev dktX15_equals_0 : List UInt8 := dkwX15_equals_0 ++ []
theorem dksX15_equals_0 : cX15_equals.data.toList.drop 0 = dktX15_equals_0 := by decide +kernel
theorem dX15_equals_0 : decode cX15_equals 0 = .ok (.aload_n 0, 1) := dk_42 (dk_at dksX15_equals_0 0 rfl rfl)
theorem dX15_equals_1 : decode cX15_equals 1 = .ok (.aload_n 1, 1) := dk_43 (dk_at dksX15_equals_0 1 rfl rfl)
theorem dX15_equals_2 : decode cX15_equals 2 = .ok (.invokedynamic 36, 5) := by decide +kernel
theorem dX15_equals_7 : decode cX15_equals 7 = .ok (.ireturn, 1) := dk_172 (dk_at dksX15_equals_0 7 rfl rfl)
abbrev cX15_image : ByteArray := prog_13_method_5_code
def yX15_image : MethodName := ⟨RX15, "image", "()I"⟩
theorem dX15_image_0 : decode cX15_image 0 = .ok (.aload_n 0, 1) := by decide +kernel
theorem dX15_image_1 : decode cX15_image 1 = .ok (.getfield 7, 3) := by decide +kernel
theorem dX15_image_4 : decode cX15_image 4 = .ok (.ireturn, 1) := by decide +kernel
abbrev cX15_number : ByteArray := prog_13_method_6_code
def yX15_number : MethodName := ⟨RX15, "number", "()I"⟩
theorem dX15_number_0 : decode cX15_number 0 = .ok (.aload_n 0, 1) := by decide +kernel
theorem dX15_number_1 : decode cX15_number 1 = .ok (.getfield 13, 3) := by decide +kernel
theorem dX15_number_4 : decode cX15_number 4 = .ok (.ireturn, 1) := by decide +kernel
abbrev cX15_reads : ByteArray := prog_13_method_7_code
def yX15_reads : MethodName := ⟨RX15, "reads", "()I"⟩
theorem dX15_reads_0 : decode cX15_reads 0 = .ok (.aload_n 0, 1) := by decide +kernel
theorem dX15_reads_1 : decode cX15_reads 1 = .ok (.getfield 16, 3) := by decide +kernel
theorem dX15_reads_4 : decode cX15_reads 4 = .ok (.ireturn, 1) := by decide +kernel
abbrev cX15_writes : ByteArray := prog_13_method_8_code
def yX15_writes : MethodName := ⟨RX15, "writes", "()I"⟩
theorem dX15_writes_0 : decode cX15_writes 0 = .ok (.aload_n 0, 1) := by decide +kernel
theorem dX15_writes_1 : decode cX15_writes 1 = .ok (.getfield 19, 3) := by decide +kernel
theorem dX15_writes_4 : decode cX15_writes 4 = .ok (.ireturn, 1) := by decide +kernel
abbrev cX15_content : ByteArray := prog_13_method_9_code
def yX15_content : MethodName := ⟨RX15, "content", "()I"⟩
theorem dX15_content_0 : decode cX15_content 0 = .ok (.aload_n 0, 1) := by decide +kernel
theorem dX15_content_1 : decode cX15_content 1 = .ok (.getfield 22, 3) := by decide +kernel
theorem dX15_content_4 : decode cX15_content 4 = .ok (.ireturn, 1) := by decide +kernel
abbrev cX15_made : ByteArray := prog_13_method_10_code
def yX15_made : MethodName := ⟨RX15, "made", "()I"⟩
theorem dX15_made_0 : decode cX15_made 0 = .ok (.aload_n 0, 1) := by decide +kernel
theorem dX15_made_1 : decode cX15_made 1 = .ok (.getfield 25, 3) := by decide +kernel
theorem dX15_made_4 : decode cX15_made 4 = .ok (.ireturn, 1) := by decide +kernel
abbrev cX15_init : ByteArray := prog_13_method_1_code
def yX15_init : MethodName := ⟨RX15, "<init>", "(IIIIII)V"⟩
def dkwX15_init_1 : List UInt8 := [181, 0, 19, 42, 21, 5, 181, 0, 22, 42, 21, 6, 181, 0, 25, 177]
abbrev dktX15_init_1 : List UInt8 := dkwX15_init_1 ++ []
def dkwX15_init_0 : List UInt8 := [42, 183, 0, 1, 42, 27, 181, 0, 7, 42, 28, 181, 0, 13, 42, 29, 181, 0, 16, 42, 21, 4]
abbrev dktX15_init_0 : List UInt8 := dkwX15_init_0 ++ dktX15_init_1
theorem dksX15_init_0 : cX15_init.data.toList.drop 0 = dktX15_init_0 := by decide +kernel
theorem dksX15_init_1 : cX15_init.data.toList.drop 22 = dktX15_init_1 := dk_seg dksX15_init_0 22 rfl rfl
theorem dX15_init_0 : decode cX15_init 0 = .ok (.aload_n 0, 1) := dk_42 (dk_at dksX15_init_0 0 rfl rfl)
theorem dX15_init_1 : decode cX15_init 1 = .ok (.invokespecial 1, 3) := dk_183 0 1 (dk_at dksX15_init_0 1 rfl rfl)
theorem dX15_init_4 : decode cX15_init 4 = .ok (.aload_n 0, 1) := dk_42 (dk_at dksX15_init_0 4 rfl rfl)
theorem dX15_init_5 : decode cX15_init 5 = .ok (.iload_n 1, 1) := dk_27 (dk_at dksX15_init_0 5 rfl rfl)
theorem dX15_init_6 : decode cX15_init 6 = .ok (.putfield 7, 3) := dk_181 0 7 (dk_at dksX15_init_0 6 rfl rfl)
theorem dX15_init_9 : decode cX15_init 9 = .ok (.aload_n 0, 1) := dk_42 (dk_at dksX15_init_0 9 rfl rfl)
theorem dX15_init_10 : decode cX15_init 10 = .ok (.iload_n 2, 1) := dk_28 (dk_at dksX15_init_0 10 rfl rfl)
theorem dX15_init_11 : decode cX15_init 11 = .ok (.putfield 13, 3) := dk_181 0 13 (dk_at dksX15_init_0 11 rfl rfl)
theorem dX15_init_14 : decode cX15_init 14 = .ok (.aload_n 0, 1) := dk_42 (dk_at dksX15_init_0 14 rfl rfl)
theorem dX15_init_15 : decode cX15_init 15 = .ok (.iload_n 3, 1) := dk_29 (dk_at dksX15_init_0 15 rfl rfl)
theorem dX15_init_16 : decode cX15_init 16 = .ok (.putfield 16, 3) := dk_181 0 16 (dk_at dksX15_init_0 16 rfl rfl)
theorem dX15_init_19 : decode cX15_init 19 = .ok (.aload_n 0, 1) := dk_42 (dk_at dksX15_init_0 19 rfl rfl)
theorem dX15_init_20 : decode cX15_init 20 = .ok (.iload 4, 2) := dk_21 4 (dk_at dksX15_init_0 20 rfl rfl)
theorem dX15_init_22 : decode cX15_init 22 = .ok (.putfield 19, 3) := dk_181 0 19 (dk_at dksX15_init_1 0 rfl rfl)
theorem dX15_init_25 : decode cX15_init 25 = .ok (.aload_n 0, 1) := dk_42 (dk_at dksX15_init_1 3 rfl rfl)
theorem dX15_init_26 : decode cX15_init 26 = .ok (.iload 5, 2) := dk_21 5 (dk_at dksX15_init_1 4 rfl rfl)
theorem dX15_init_28 : decode cX15_init 28 = .ok (.putfield 22, 3) := dk_181 0 22 (dk_at dksX15_init_1 6 rfl rfl)
theorem dX15_init_31 : decode cX15_init 31 = .ok (.aload_n 0, 1) := dk_42 (dk_at dksX15_init_1 9 rfl rfl)
theorem dX15_init_32 : decode cX15_init 32 = .ok (.iload 6, 2) := dk_21 6 (dk_at dksX15_init_1 10 rfl rfl)
theorem dX15_init_34 : decode cX15_init 34 = .ok (.putfield 25, 3) := dk_181 0 25 (dk_at dksX15_init_1 12 rfl rfl)
theorem dX15_init_37 : decode cX15_init 37 = .ok (.return_, 1) := dk_177 (dk_at dksX15_init_1 15 rfl rfl)
theorem q121 : (Jvm.Cond.initialized "CrateDeck$Step") ∈ lw_all := lw_g (lw_at lw_m1 36 rfl) rfl
theorem q251 : (Jvm.Cond.selects "CrateDeck$Step" ({ cls := "java/lang/Object", name := "getClass", desc := "()Ljava/lang/Class;" } : Jvm.MethodName) ({ cls := "java/lang/Object", name := "getClass", desc := "()Ljava/lang/Class;" } : Jvm.MethodName)) ∈ lw_all := lw_g (lw_at lw_m1 166 rfl) rfl
theorem q967 : (Jvm.Cond.selects "CrateDeck$Step" ({ cls := "java/lang/Object", name := "equals", desc := "(Ljava/lang/Object;)Z" } : Jvm.MethodName) ({ cls := "CrateDeck$Step", name := "equals", desc := "(Ljava/lang/Object;)Z" } : Jvm.MethodName)) ∈ lw_all := lw_g (lw_at lw_m4 162 rfl) rfl
theorem q968 : (Jvm.Cond.instanceMethod ({ cls := "CrateDeck$Step", name := "equals", desc := "(Ljava/lang/Object;)Z" } : Jvm.MethodName)) ∈ lw_all := lw_g (lw_at lw_m4 163 rfl) rfl
theorem q969 : (Jvm.Cond.code ({ cls := "CrateDeck$Step", name := "equals", desc := "(Ljava/lang/Object;)Z" } : Jvm.MethodName) prog_13_method_4_code (2 : Nat) (Option.some Jvm.ClassFile.FieldType.boolean)) ∈ lw_all := lw_g (lw_at lw_m4 164 rfl) rfl
theorem q1380 : (Jvm.Cond.instanceMethod ({ cls := "CrateDeck$Step", name := "image", desc := "()I" } : Jvm.MethodName)) ∈ lw_all := lw_g (lw_at lw_m6 95 rfl) rfl
theorem q1381 : (Jvm.Cond.selects "CrateDeck$Step" ({ cls := "CrateDeck$Step", name := "image", desc := "()I" } : Jvm.MethodName) ({ cls := "CrateDeck$Step", name := "image", desc := "()I" } : Jvm.MethodName)) ∈ lw_all := lw_g (lw_at lw_m6 96 rfl) rfl
theorem q1382 : (Jvm.Cond.code ({ cls := "CrateDeck$Step", name := "image", desc := "()I" } : Jvm.MethodName) prog_13_method_5_code (1 : Nat) (Option.some Jvm.ClassFile.FieldType.int)) ∈ lw_all := lw_g (lw_at lw_m6 97 rfl) rfl
theorem q1384 : (Jvm.Cond.instanceMethod ({ cls := "CrateDeck$Step", name := "number", desc := "()I" } : Jvm.MethodName)) ∈ lw_all := lw_g (lw_at lw_m6 99 rfl) rfl
theorem q1385 : (Jvm.Cond.selects "CrateDeck$Step" ({ cls := "CrateDeck$Step", name := "number", desc := "()I" } : Jvm.MethodName) ({ cls := "CrateDeck$Step", name := "number", desc := "()I" } : Jvm.MethodName)) ∈ lw_all := lw_g (lw_at lw_m6 100 rfl) rfl
theorem q1386 : (Jvm.Cond.code ({ cls := "CrateDeck$Step", name := "number", desc := "()I" } : Jvm.MethodName) prog_13_method_6_code (1 : Nat) (Option.some Jvm.ClassFile.FieldType.int)) ∈ lw_all := lw_g (lw_at lw_m6 101 rfl) rfl
theorem q1388 : (Jvm.Cond.instanceMethod ({ cls := "CrateDeck$Step", name := "reads", desc := "()I" } : Jvm.MethodName)) ∈ lw_all := lw_g (lw_at lw_m6 103 rfl) rfl
theorem q1389 : (Jvm.Cond.selects "CrateDeck$Step" ({ cls := "CrateDeck$Step", name := "reads", desc := "()I" } : Jvm.MethodName) ({ cls := "CrateDeck$Step", name := "reads", desc := "()I" } : Jvm.MethodName)) ∈ lw_all := lw_g (lw_at lw_m6 104 rfl) rfl
theorem q1390 : (Jvm.Cond.code ({ cls := "CrateDeck$Step", name := "reads", desc := "()I" } : Jvm.MethodName) prog_13_method_7_code (1 : Nat) (Option.some Jvm.ClassFile.FieldType.int)) ∈ lw_all := lw_g (lw_at lw_m6 105 rfl) rfl
theorem q1392 : (Jvm.Cond.instanceMethod ({ cls := "CrateDeck$Step", name := "writes", desc := "()I" } : Jvm.MethodName)) ∈ lw_all := lw_g (lw_at lw_m6 107 rfl) rfl
theorem q1393 : (Jvm.Cond.selects "CrateDeck$Step" ({ cls := "CrateDeck$Step", name := "writes", desc := "()I" } : Jvm.MethodName) ({ cls := "CrateDeck$Step", name := "writes", desc := "()I" } : Jvm.MethodName)) ∈ lw_all := lw_g (lw_at lw_m6 108 rfl) rfl
theorem q1394 : (Jvm.Cond.code ({ cls := "CrateDeck$Step", name := "writes", desc := "()I" } : Jvm.MethodName) prog_13_method_8_code (1 : Nat) (Option.some Jvm.ClassFile.FieldType.int)) ∈ lw_all := lw_g (lw_at lw_m6 109 rfl) rfl
theorem q1396 : (Jvm.Cond.instanceMethod ({ cls := "CrateDeck$Step", name := "content", desc := "()I" } : Jvm.MethodName)) ∈ lw_all := lw_g (lw_at lw_m6 111 rfl) rfl
theorem q1397 : (Jvm.Cond.selects "CrateDeck$Step" ({ cls := "CrateDeck$Step", name := "content", desc := "()I" } : Jvm.MethodName) ({ cls := "CrateDeck$Step", name := "content", desc := "()I" } : Jvm.MethodName)) ∈ lw_all := lw_g (lw_at lw_m6 112 rfl) rfl
theorem q1398 : (Jvm.Cond.code ({ cls := "CrateDeck$Step", name := "content", desc := "()I" } : Jvm.MethodName) prog_13_method_9_code (1 : Nat) (Option.some Jvm.ClassFile.FieldType.int)) ∈ lw_all := lw_g (lw_at lw_m6 113 rfl) rfl
theorem q1400 : (Jvm.Cond.instanceMethod ({ cls := "CrateDeck$Step", name := "made", desc := "()I" } : Jvm.MethodName)) ∈ lw_all := lw_g (lw_at lw_m6 115 rfl) rfl
theorem q1401 : (Jvm.Cond.selects "CrateDeck$Step" ({ cls := "CrateDeck$Step", name := "made", desc := "()I" } : Jvm.MethodName) ({ cls := "CrateDeck$Step", name := "made", desc := "()I" } : Jvm.MethodName)) ∈ lw_all := lw_g (lw_at lw_m6 116 rfl) rfl
theorem q1402 : (Jvm.Cond.code ({ cls := "CrateDeck$Step", name := "made", desc := "()I" } : Jvm.MethodName) prog_13_method_10_code (1 : Nat) (Option.some Jvm.ClassFile.FieldType.int)) ∈ lw_all := lw_g (lw_at lw_m6 117 rfl) rfl
theorem q1403 : (Jvm.Cond.instantiable "CrateDeck$Step" (6 : Nat)) ∈ lw_all := lw_g (lw_at lw_m6 118 rfl) rfl
theorem q1405 : (Jvm.Cond.instanceMethod ({ cls := "CrateDeck$Step", name := "<init>", desc := "(IIIIII)V" } : Jvm.MethodName)) ∈ lw_all := lw_g (lw_at lw_m6 120 rfl) rfl
theorem q1406 : (Jvm.Cond.code ({ cls := "CrateDeck$Step", name := "<init>", desc := "(IIIIII)V" } : Jvm.MethodName) prog_13_method_1_code (7 : Nat) (Option.none : Option Jvm.ClassFile.FieldType)) ∈ lw_all := lw_g (lw_at lw_m6 121 rfl) rfl
theorem q1407 : (Jvm.Cond.methodLink "CrateDeck$Step" (1 : Nat) ({ cls := "java/lang/Record", name := "<init>", desc := "()V" } : Jvm.MethodName)) ∈ lw_all := lw_g (lw_at lw_m6 122 rfl) rfl
theorem q1408 : (Jvm.Cond.fieldLink "CrateDeck$Step" (7 : Nat) "CrateDeck$Step" "image" "I") ∈ lw_all := lw_g (lw_at lw_m6 123 rfl) rfl
theorem q1409 : (Jvm.Cond.fieldLink "CrateDeck$Step" (13 : Nat) "CrateDeck$Step" "number" "I") ∈ lw_all := lw_g (lw_at lw_m6 124 rfl) rfl
theorem q1410 : (Jvm.Cond.fieldLink "CrateDeck$Step" (16 : Nat) "CrateDeck$Step" "reads" "I") ∈ lw_all := lw_g (lw_at lw_m6 125 rfl) rfl
theorem q1411 : (Jvm.Cond.fieldLink "CrateDeck$Step" (19 : Nat) "CrateDeck$Step" "writes" "I") ∈ lw_all := lw_g (lw_at lw_m6 126 rfl) rfl
theorem q1412 : (Jvm.Cond.fieldLink "CrateDeck$Step" (22 : Nat) "CrateDeck$Step" "content" "I") ∈ lw_all := lw_g (lw_at lw_m6 127 rfl) rfl
theorem q1413 : (Jvm.Cond.fieldLink "CrateDeck$Step" (25 : Nat) "CrateDeck$Step" "made" "I") ∈ lw_all := lw_g (lw_at lw_m6 128 rfl) rfl
theorem q1414 : (Jvm.Cond.laysFinal "CrateDeck$Step" "CrateDeck$Step" "image" "I") ∈ lw_all := lw_g (lw_at lw_m6 129 rfl) rfl
theorem q1415 : (Jvm.Cond.soleField "CrateDeck$Step" "image") ∈ lw_all := lw_g (lw_at lw_m6 130 rfl) rfl
theorem q1416 : (Jvm.Cond.laysFinal "CrateDeck$Step" "CrateDeck$Step" "number" "I") ∈ lw_all := lw_g (lw_at lw_m6 131 rfl) rfl
theorem q1417 : (Jvm.Cond.soleField "CrateDeck$Step" "number") ∈ lw_all := lw_g (lw_at lw_m6 132 rfl) rfl
theorem q1418 : (Jvm.Cond.laysFinal "CrateDeck$Step" "CrateDeck$Step" "reads" "I") ∈ lw_all := lw_g (lw_at lw_m6 133 rfl) rfl
theorem q1419 : (Jvm.Cond.soleField "CrateDeck$Step" "reads") ∈ lw_all := lw_g (lw_at lw_m6 134 rfl) rfl
theorem q1420 : (Jvm.Cond.laysFinal "CrateDeck$Step" "CrateDeck$Step" "writes" "I") ∈ lw_all := lw_g (lw_at lw_m6 135 rfl) rfl
theorem q1421 : (Jvm.Cond.soleField "CrateDeck$Step" "writes") ∈ lw_all := lw_g (lw_at lw_m6 136 rfl) rfl
theorem q1422 : (Jvm.Cond.laysFinal "CrateDeck$Step" "CrateDeck$Step" "content" "I") ∈ lw_all := lw_g (lw_at lw_m6 137 rfl) rfl
theorem q1423 : (Jvm.Cond.soleField "CrateDeck$Step" "content") ∈ lw_all := lw_g (lw_at lw_m6 138 rfl) rfl
theorem q1424 : (Jvm.Cond.laysFinal "CrateDeck$Step" "CrateDeck$Step" "made" "I") ∈ lw_all := lw_g (lw_at lw_m6 139 rfl) rfl
theorem q1425 : (Jvm.Cond.soleField "CrateDeck$Step" "made") ∈ lw_all := lw_g (lw_at lw_m6 140 rfl) rfl
theorem q1426 : (Jvm.Cond.superclass "CrateDeck$Step" "java/lang/Record") ∈ lw_all := lw_g (lw_at lw_m6 141 rfl) rfl
theorem q2149 : (Jvm.Cond.castable "CrateDeck$Step" "java/lang/Object") ∈ lw_tbl := lw_at lw_m9 144 rfl
theorem in_X15 : ∀ w ∈ wsX150, w ∈ lw_all := lw_in wsX150 [1414, 1416, 1418, 1420, 1422, 1424] (by decide +kernel) (by decide +kernel)

/-! CrateDeck$Service -/
set_option maxRecDepth 100000
def RX16 : String := "CrateDeck$Service"
def TX16 : u_T := fun k => match k with
  | 0 => ("CrateDeck$Service", "name", "I", true)
  | 1 => ("CrateDeck$Service", "image", "I", false)
  | 2 => ("CrateDeck$Service", "before", "I", false)
  | 3 => ("CrateDeck$Service", "wished", "I", false)
  | _ => ("CrateDeck$Service", "failures", "I", false)
def tyX16 : Nat → FieldType := fun k => match k with
  | 0 => .int
  | 1 => .int
  | 2 => .int
  | 3 => .int
  | _ => .int
abbrev wsX160 : List Cond := u_ws RX16 TX16 5
theorem nmX16 : ∀ a, a < 5 → ∀ b, b < 5 → a ≠ b → (TX16 a).2.1 ≠ (TX16 b).2.1 := by decide +kernel
theorem tyX16_ok : ∀ k, k < 5 → parseFieldDescriptor (TX16 k).2.2.1 = some (tyX16 k) := by decide +kernel
abbrev cX16_init : ByteArray := prog_12_method_1_code
def yX16_init : MethodName := ⟨RX16, "<init>", "(I)V"⟩
def dkwX16_init_0 : List UInt8 := [42, 183, 0, 3, 42, 2, 181, 0, 9, 42, 27, 181, 0, 15, 177]
abbrev dktX16_init_0 : List UInt8 := dkwX16_init_0 ++ []
theorem dksX16_init_0 : cX16_init.data.toList.drop 0 = dktX16_init_0 := by decide +kernel
theorem dX16_init_0 : decode cX16_init 0 = .ok (.aload_n 0, 1) := dk_42 (dk_at dksX16_init_0 0 rfl rfl)
theorem dX16_init_1 : decode cX16_init 1 = .ok (.invokespecial 3, 3) := dk_183 0 3 (dk_at dksX16_init_0 1 rfl rfl)
theorem dX16_init_4 : decode cX16_init 4 = .ok (.aload_n 0, 1) := dk_42 (dk_at dksX16_init_0 4 rfl rfl)
theorem dX16_init_5 : decode cX16_init 5 = .ok (.iconst (-1), 1) := dk_2 (dk_at dksX16_init_0 5 rfl rfl)
theorem dX16_init_6 : decode cX16_init 6 = .ok (.putfield 9, 3) := dk_181 0 9 (dk_at dksX16_init_0 6 rfl rfl)
theorem dX16_init_9 : decode cX16_init 9 = .ok (.aload_n 0, 1) := dk_42 (dk_at dksX16_init_0 9 rfl rfl)
theorem dX16_init_10 : decode cX16_init 10 = .ok (.iload_n 1, 1) := dk_27 (dk_at dksX16_init_0 10 rfl rfl)
theorem dX16_init_11 : decode cX16_init 11 = .ok (.putfield 15, 3) := dk_181 0 15 (dk_at dksX16_init_0 11 rfl rfl)
theorem dX16_init_14 : decode cX16_init 14 = .ok (.return_, 1) := dk_177 (dk_at dksX16_init_0 14 rfl rfl)
theorem q122 : (Jvm.Cond.initialized "CrateDeck$Service") ∈ lw_all := lw_g (lw_at lw_m1 37 rfl) rfl
theorem q250 : (Jvm.Cond.selects "CrateDeck$Service" ({ cls := "java/lang/Object", name := "getClass", desc := "()Ljava/lang/Class;" } : Jvm.MethodName) ({ cls := "java/lang/Object", name := "getClass", desc := "()Ljava/lang/Class;" } : Jvm.MethodName)) ∈ lw_all := lw_g (lw_at lw_m1 165 rfl) rfl
theorem q966 : (Jvm.Cond.selects "CrateDeck$Service" ({ cls := "java/lang/Object", name := "equals", desc := "(Ljava/lang/Object;)Z" } : Jvm.MethodName) ({ cls := "java/lang/Object", name := "equals", desc := "(Ljava/lang/Object;)Z" } : Jvm.MethodName)) ∈ lw_all := lw_g (lw_at lw_m4 161 rfl) rfl
theorem q1455 : (Jvm.Cond.instantiable "CrateDeck$Service" (5 : Nat)) ∈ lw_all := lw_g (lw_at lw_m6 170 rfl) rfl
theorem q1457 : (Jvm.Cond.instanceMethod ({ cls := "CrateDeck$Service", name := "<init>", desc := "(I)V" } : Jvm.MethodName)) ∈ lw_all := lw_g (lw_at lw_m6 172 rfl) rfl
theorem q1458 : (Jvm.Cond.code ({ cls := "CrateDeck$Service", name := "<init>", desc := "(I)V" } : Jvm.MethodName) prog_12_method_1_code (2 : Nat) (Option.none : Option Jvm.ClassFile.FieldType)) ∈ lw_all := lw_g (lw_at lw_m6 173 rfl) rfl
theorem q1459 : (Jvm.Cond.methodLink "CrateDeck$Service" (3 : Nat) ({ cls := "java/lang/Object", name := "<init>", desc := "()V" } : Jvm.MethodName)) ∈ lw_all := lw_g (lw_at lw_m6 174 rfl) rfl
theorem q1460 : (Jvm.Cond.fieldLink "CrateDeck$Service" (15 : Nat) "CrateDeck$Service" "name" "I") ∈ lw_all := lw_g (lw_at lw_m6 175 rfl) rfl
theorem q1463 : (Jvm.Cond.fieldLink "CrateDeck$Service" (9 : Nat) "CrateDeck$Service" "before" "I") ∈ lw_all := lw_g (lw_at lw_m6 178 rfl) rfl
theorem q1467 : (Jvm.Cond.laysFinal "CrateDeck$Service" "CrateDeck$Service" "name" "I") ∈ lw_all := lw_g (lw_at lw_m6 182 rfl) rfl
theorem q1468 : (Jvm.Cond.soleField "CrateDeck$Service" "name") ∈ lw_all := lw_g (lw_at lw_m6 183 rfl) rfl
theorem q1469 : (Jvm.Cond.lays "CrateDeck$Service" "CrateDeck$Service" "image" "I") ∈ lw_all := lw_g (lw_at lw_m6 184 rfl) rfl
theorem q1470 : (Jvm.Cond.soleField "CrateDeck$Service" "image") ∈ lw_all := lw_g (lw_at lw_m6 185 rfl) rfl
theorem q1471 : (Jvm.Cond.lays "CrateDeck$Service" "CrateDeck$Service" "before" "I") ∈ lw_all := lw_g (lw_at lw_m6 186 rfl) rfl
theorem q1472 : (Jvm.Cond.soleField "CrateDeck$Service" "before") ∈ lw_all := lw_g (lw_at lw_m6 187 rfl) rfl
theorem q1473 : (Jvm.Cond.lays "CrateDeck$Service" "CrateDeck$Service" "wished" "I") ∈ lw_all := lw_g (lw_at lw_m6 188 rfl) rfl
theorem q1474 : (Jvm.Cond.soleField "CrateDeck$Service" "wished") ∈ lw_all := lw_g (lw_at lw_m6 189 rfl) rfl
theorem q1475 : (Jvm.Cond.lays "CrateDeck$Service" "CrateDeck$Service" "failures" "I") ∈ lw_all := lw_g (lw_at lw_m6 190 rfl) rfl
theorem q1476 : (Jvm.Cond.soleField "CrateDeck$Service" "failures") ∈ lw_all := lw_g (lw_at lw_m6 191 rfl) rfl
theorem q1477 : (Jvm.Cond.superclass "CrateDeck$Service" "java/lang/Object") ∈ lw_all := lw_g (lw_at lw_m6 192 rfl) rfl
theorem q2150 : (Jvm.Cond.castable "CrateDeck$Service" "java/lang/Object") ∈ lw_tbl := lw_at lw_m9 145 rfl
theorem in_X16 : ∀ w ∈ wsX160, w ∈ lw_all := lw_in wsX160 [1467, 1469, 1471, 1473, 1475] (by decide +kernel) (by decide +kernel)

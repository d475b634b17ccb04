/-! CrateDeckLaw -/
set_option maxRecDepth 100000
def RX0 : String := "CrateDeckLaw"
abbrev cX0_entry : ByteArray := method_3_code
def yX0_entry : MethodName := ⟨RX0, "entry", "(LCrateDeck;III[J)I"⟩
def dkwX0_entry_1 : List UInt8 := [172]
abbrev dktX0_entry_1 : List UInt8 := dkwX0_entry_1 ++ []
def dkwX0_entry_0 : List UInt8 := [25, 4, 3, 42, 27, 28, 29, 182, 0, 7, 133, 80, 167, 0, 11, 58, 5, 4, 172, 58, 5, 5, 172, 3]
abbrev dktX0_entry_0 : List UInt8 := dkwX0_entry_0 ++ dktX0_entry_1
theorem dksX0_entry_0 : cX0_entry.data.toList.drop 0 = dktX0_entry_0 := by decide +kernel
theorem dksX0_entry_1 : cX0_entry.data.toList.drop 24 = dktX0_entry_1 := dk_seg dksX0_entry_0 24 rfl rfl
theorem dX0_entry_0 : decode cX0_entry 0 = .ok (.aload 4, 2) := dk_25 4 (dk_at dksX0_entry_0 0 rfl rfl)
theorem dX0_entry_2 : decode cX0_entry 2 = .ok (.iconst 0, 1) := dk_3 (dk_at dksX0_entry_0 2 rfl rfl)
theorem dX0_entry_3 : decode cX0_entry 3 = .ok (.aload_n 0, 1) := dk_42 (dk_at dksX0_entry_0 3 rfl rfl)
theorem dX0_entry_4 : decode cX0_entry 4 = .ok (.iload_n 1, 1) := dk_27 (dk_at dksX0_entry_0 4 rfl rfl)
theorem dX0_entry_5 : decode cX0_entry 5 = .ok (.iload_n 2, 1) := dk_28 (dk_at dksX0_entry_0 5 rfl rfl)
theorem dX0_entry_6 : decode cX0_entry 6 = .ok (.iload_n 3, 1) := dk_29 (dk_at dksX0_entry_0 6 rfl rfl)
theorem dX0_entry_7 : decode cX0_entry 7 = .ok (.invokevirtual 7, 3) := dk_182 0 7 (dk_at dksX0_entry_0 7 rfl rfl)
theorem dX0_entry_10 : decode cX0_entry 10 = .ok (.i2l, 1) := dk_133 (dk_at dksX0_entry_0 10 rfl rfl)
theorem dX0_entry_11 : decode cX0_entry 11 = .ok (.lastore, 1) := dk_80 (dk_at dksX0_entry_0 11 rfl rfl)
theorem dX0_entry_12 : decode cX0_entry 12 = .ok (.goto 11, 3) := dk_167 0 11 (dk_at dksX0_entry_0 12 rfl rfl)
theorem dX0_entry_15 : decode cX0_entry 15 = .ok (.astore 5, 2) := dk_58 5 (dk_at dksX0_entry_0 15 rfl rfl)
theorem dX0_entry_17 : decode cX0_entry 17 = .ok (.iconst 1, 1) := dk_4 (dk_at dksX0_entry_0 17 rfl rfl)
theorem dX0_entry_18 : decode cX0_entry 18 = .ok (.ireturn, 1) := dk_172 (dk_at dksX0_entry_0 18 rfl rfl)
theorem dX0_entry_19 : decode cX0_entry 19 = .ok (.astore 5, 2) := dk_58 5 (dk_at dksX0_entry_0 19 rfl rfl)
theorem dX0_entry_21 : decode cX0_entry 21 = .ok (.iconst 2, 1) := dk_5 (dk_at dksX0_entry_0 21 rfl rfl)
theorem dX0_entry_22 : decode cX0_entry 22 = .ok (.ireturn, 1) := dk_172 (dk_at dksX0_entry_0 22 rfl rfl)
theorem dX0_entry_23 : decode cX0_entry 23 = .ok (.iconst 0, 1) := dk_3 (dk_at dksX0_entry_0 23 rfl rfl)
theorem dX0_entry_24 : decode cX0_entry 24 = .ok (.ireturn, 1) := dk_172 (dk_at dksX0_entry_1 0 rfl rfl)
abbrev cX0_layer : ByteArray := method_4_code
def yX0_layer : MethodName := ⟨RX0, "layer", "(LCrateDeck;[J)I"⟩
def dkwX0_layer_0 : List UInt8 := [43, 3, 42, 182, 0, 17, 133, 80, 167, 0, 6, 77, 4, 172, 3, 172]
abbrev dktX0_layer_0 : List UInt8 := dkwX0_layer_0 ++ []
theorem dksX0_layer_0 : cX0_layer.data.toList.drop 0 = dktX0_layer_0 := by decide +kernel
theorem dX0_layer_0 : decode cX0_layer 0 = .ok (.aload_n 1, 1) := dk_43 (dk_at dksX0_layer_0 0 rfl rfl)
theorem dX0_layer_1 : decode cX0_layer 1 = .ok (.iconst 0, 1) := dk_3 (dk_at dksX0_layer_0 1 rfl rfl)
theorem dX0_layer_2 : decode cX0_layer 2 = .ok (.aload_n 0, 1) := dk_42 (dk_at dksX0_layer_0 2 rfl rfl)
theorem dX0_layer_3 : decode cX0_layer 3 = .ok (.invokevirtual 17, 3) := dk_182 0 17 (dk_at dksX0_layer_0 3 rfl rfl)
theorem dX0_layer_6 : decode cX0_layer 6 = .ok (.i2l, 1) := dk_133 (dk_at dksX0_layer_0 6 rfl rfl)
theorem dX0_layer_7 : decode cX0_layer 7 = .ok (.lastore, 1) := dk_80 (dk_at dksX0_layer_0 7 rfl rfl)
theorem dX0_layer_8 : decode cX0_layer 8 = .ok (.goto 6, 3) := dk_167 0 6 (dk_at dksX0_layer_0 8 rfl rfl)
theorem dX0_layer_11 : decode cX0_layer 11 = .ok (.astore_n 2, 1) := dk_77 (dk_at dksX0_layer_0 11 rfl rfl)
theorem dX0_layer_12 : decode cX0_layer 12 = .ok (.iconst 1, 1) := dk_4 (dk_at dksX0_layer_0 12 rfl rfl)
theorem dX0_layer_13 : decode cX0_layer 13 = .ok (.ireturn, 1) := dk_172 (dk_at dksX0_layer_0 13 rfl rfl)
theorem dX0_layer_14 : decode cX0_layer 14 = .ok (.iconst 0, 1) := dk_3 (dk_at dksX0_layer_0 14 rfl rfl)
theorem dX0_layer_15 : decode cX0_layer 15 = .ok (.ireturn, 1) := dk_172 (dk_at dksX0_layer_0 15 rfl rfl)
abbrev cX0_image : ByteArray := method_5_code
def yX0_image : MethodName := ⟨RX0, "image", "(LCrateDeck;II[J)I"⟩
def dkwX0_image_0 : List UInt8 := [45, 3, 42, 27, 28, 182, 0, 21, 133, 80, 167, 0, 11, 58, 4, 4, 172, 58, 4, 5, 172, 3, 172]
abbrev dktX0_image_0 : List UInt8 := dkwX0_image_0 ++ []
theorem dksX0_image_0 : cX0_image.data.toList.drop 0 = dktX0_image_0 := by decide +kernel
theorem dX0_image_0 : decode cX0_image 0 = .ok (.aload_n 3, 1) := dk_45 (dk_at dksX0_image_0 0 rfl rfl)
theorem dX0_image_1 : decode cX0_image 1 = .ok (.iconst 0, 1) := dk_3 (dk_at dksX0_image_0 1 rfl rfl)
theorem dX0_image_2 : decode cX0_image 2 = .ok (.aload_n 0, 1) := dk_42 (dk_at dksX0_image_0 2 rfl rfl)
theorem dX0_image_3 : decode cX0_image 3 = .ok (.iload_n 1, 1) := dk_27 (dk_at dksX0_image_0 3 rfl rfl)
theorem dX0_image_4 : decode cX0_image 4 = .ok (.iload_n 2, 1) := dk_28 (dk_at dksX0_image_0 4 rfl rfl)
theorem dX0_image_5 : decode cX0_image 5 = .ok (.invokevirtual 21, 3) := dk_182 0 21 (dk_at dksX0_image_0 5 rfl rfl)
theorem dX0_image_8 : decode cX0_image 8 = .ok (.i2l, 1) := dk_133 (dk_at dksX0_image_0 8 rfl rfl)
theorem dX0_image_9 : decode cX0_image 9 = .ok (.lastore, 1) := dk_80 (dk_at dksX0_image_0 9 rfl rfl)
theorem dX0_image_10 : decode cX0_image 10 = .ok (.goto 11, 3) := dk_167 0 11 (dk_at dksX0_image_0 10 rfl rfl)
theorem dX0_image_13 : decode cX0_image 13 = .ok (.astore 4, 2) := dk_58 4 (dk_at dksX0_image_0 13 rfl rfl)
theorem dX0_image_15 : decode cX0_image 15 = .ok (.iconst 1, 1) := dk_4 (dk_at dksX0_image_0 15 rfl rfl)
theorem dX0_image_16 : decode cX0_image 16 = .ok (.ireturn, 1) := dk_172 (dk_at dksX0_image_0 16 rfl rfl)
theorem dX0_image_17 : decode cX0_image 17 = .ok (.astore 4, 2) := dk_58 4 (dk_at dksX0_image_0 17 rfl rfl)
theorem dX0_image_19 : decode cX0_image 19 = .ok (.iconst 2, 1) := dk_5 (dk_at dksX0_image_0 19 rfl rfl)
theorem dX0_image_20 : decode cX0_image 20 = .ok (.ireturn, 1) := dk_172 (dk_at dksX0_image_0 20 rfl rfl)
theorem dX0_image_21 : decode cX0_image 21 = .ok (.iconst 0, 1) := dk_3 (dk_at dksX0_image_0 21 rfl rfl)
theorem dX0_image_22 : decode cX0_image 22 = .ok (.ireturn, 1) := dk_172 (dk_at dksX0_image_0 22 rfl rfl)
abbrev cX0_shows : ByteArray := method_6_code
def yX0_shows : MethodName := ⟨RX0, "shows", "(LCrateDeck;II[J)I"⟩
def dkwX0_shows_0 : List UInt8 := [45, 3, 42, 27, 28, 182, 0, 27, 133, 80, 167, 0, 11, 58, 4, 4, 172, 58, 4, 5, 172, 3, 172]
abbrev dktX0_shows_0 : List UInt8 := dkwX0_shows_0 ++ []
theorem dksX0_shows_0 : cX0_shows.data.toList.drop 0 = dktX0_shows_0 := by decide +kernel
theorem dX0_shows_0 : decode cX0_shows 0 = .ok (.aload_n 3, 1) := dk_45 (dk_at dksX0_shows_0 0 rfl rfl)
theorem dX0_shows_1 : decode cX0_shows 1 = .ok (.iconst 0, 1) := dk_3 (dk_at dksX0_shows_0 1 rfl rfl)
theorem dX0_shows_2 : decode cX0_shows 2 = .ok (.aload_n 0, 1) := dk_42 (dk_at dksX0_shows_0 2 rfl rfl)
theorem dX0_shows_3 : decode cX0_shows 3 = .ok (.iload_n 1, 1) := dk_27 (dk_at dksX0_shows_0 3 rfl rfl)
theorem dX0_shows_4 : decode cX0_shows 4 = .ok (.iload_n 2, 1) := dk_28 (dk_at dksX0_shows_0 4 rfl rfl)
theorem dX0_shows_5 : decode cX0_shows 5 = .ok (.invokevirtual 27, 3) := dk_182 0 27 (dk_at dksX0_shows_0 5 rfl rfl)
theorem dX0_shows_8 : decode cX0_shows 8 = .ok (.i2l, 1) := dk_133 (dk_at dksX0_shows_0 8 rfl rfl)
theorem dX0_shows_9 : decode cX0_shows 9 = .ok (.lastore, 1) := dk_80 (dk_at dksX0_shows_0 9 rfl rfl)
theorem dX0_shows_10 : decode cX0_shows 10 = .ok (.goto 11, 3) := dk_167 0 11 (dk_at dksX0_shows_0 10 rfl rfl)
theorem dX0_shows_13 : decode cX0_shows 13 = .ok (.astore 4, 2) := dk_58 4 (dk_at dksX0_shows_0 13 rfl rfl)
theorem dX0_shows_15 : decode cX0_shows 15 = .ok (.iconst 1, 1) := dk_4 (dk_at dksX0_shows_0 15 rfl rfl)
theorem dX0_shows_16 : decode cX0_shows 16 = .ok (.ireturn, 1) := dk_172 (dk_at dksX0_shows_0 16 rfl rfl)
theorem dX0_shows_17 : decode cX0_shows 17 = .ok (.astore 4, 2) := dk_58 4 (dk_at dksX0_shows_0 17 rfl rfl)
theorem dX0_shows_19 : decode cX0_shows 19 = .ok (.iconst 2, 1) := dk_5 (dk_at dksX0_shows_0 19 rfl rfl)
theorem dX0_shows_20 : decode cX0_shows 20 = .ok (.ireturn, 1) := dk_172 (dk_at dksX0_shows_0 20 rfl rfl)
theorem dX0_shows_21 : decode cX0_shows 21 = .ok (.iconst 0, 1) := dk_3 (dk_at dksX0_shows_0 21 rfl rfl)
theorem dX0_shows_22 : decode cX0_shows 22 = .ok (.ireturn, 1) := dk_172 (dk_at dksX0_shows_0 22 rfl rfl)
abbrev cX0_showsByAll : ByteArray := method_7_code
def yX0_showsByAll : MethodName := ⟨RX0, "showsByAll", "(LCrateDeck;II[J)I"⟩
def dkwX0_showsByAll_0 : List UInt8 := [45, 3, 42, 27, 28, 182, 0, 30, 133, 80, 167, 0, 11, 58, 4, 4, 172, 58, 4, 5, 172, 3, 172]
abbrev dktX0_showsByAll_0 : List UInt8 := dkwX0_showsByAll_0 ++ []
theorem dksX0_showsByAll_0 : cX0_showsByAll.data.toList.drop 0 = dktX0_showsByAll_0 := by decide +kernel
theorem dX0_showsByAll_0 : decode cX0_showsByAll 0 = .ok (.aload_n 3, 1) := dk_45 (dk_at dksX0_showsByAll_0 0 rfl rfl)
theorem dX0_showsByAll_1 : decode cX0_showsByAll 1 = .ok (.iconst 0, 1) := dk_3 (dk_at dksX0_showsByAll_0 1 rfl rfl)
theorem dX0_showsByAll_2 : decode cX0_showsByAll 2 = .ok (.aload_n 0, 1) := dk_42 (dk_at dksX0_showsByAll_0 2 rfl rfl)
theorem dX0_showsByAll_3 : decode cX0_showsByAll 3 = .ok (.iload_n 1, 1) := dk_27 (dk_at dksX0_showsByAll_0 3 rfl rfl)
theorem dX0_showsByAll_4 : decode cX0_showsByAll 4 = .ok (.iload_n 2, 1) := dk_28 (dk_at dksX0_showsByAll_0 4 rfl rfl)
theorem dX0_showsByAll_5 : decode cX0_showsByAll 5 = .ok (.invokevirtual 30, 3) := dk_182 0 30 (dk_at dksX0_showsByAll_0 5 rfl rfl)
theorem dX0_showsByAll_8 : decode cX0_showsByAll 8 = .ok (.i2l, 1) := dk_133 (dk_at dksX0_showsByAll_0 8 rfl rfl)
theorem dX0_showsByAll_9 : decode cX0_showsByAll 9 = .ok (.lastore, 1) := dk_80 (dk_at dksX0_showsByAll_0 9 rfl rfl)
theorem dX0_showsByAll_10 : decode cX0_showsByAll 10 = .ok (.goto 11, 3) := dk_167 0 11 (dk_at dksX0_showsByAll_0 10 rfl rfl)
theorem dX0_showsByAll_13 : decode cX0_showsByAll 13 = .ok (.astore 4, 2) := dk_58 4 (dk_at dksX0_showsByAll_0 13 rfl rfl)
theorem dX0_showsByAll_15 : decode cX0_showsByAll 15 = .ok (.iconst 1, 1) := dk_4 (dk_at dksX0_showsByAll_0 15 rfl rfl)
theorem dX0_showsByAll_16 : decode cX0_showsByAll 16 = .ok (.ireturn, 1) := dk_172 (dk_at dksX0_showsByAll_0 16 rfl rfl)
theorem dX0_showsByAll_17 : decode cX0_showsByAll 17 = .ok (.astore 4, 2) := dk_58 4 (dk_at dksX0_showsByAll_0 17 rfl rfl)
theorem dX0_showsByAll_19 : decode cX0_showsByAll 19 = .ok (.iconst 2, 1) := dk_5 (dk_at dksX0_showsByAll_0 19 rfl rfl)
theorem dX0_showsByAll_20 : decode cX0_showsByAll 20 = .ok (.ireturn, 1) := dk_172 (dk_at dksX0_showsByAll_0 20 rfl rfl)
theorem dX0_showsByAll_21 : decode cX0_showsByAll 21 = .ok (.iconst 0, 1) := dk_3 (dk_at dksX0_showsByAll_0 21 rfl rfl)
theorem dX0_showsByAll_22 : decode cX0_showsByAll 22 = .ok (.ireturn, 1) := dk_172 (dk_at dksX0_showsByAll_0 22 rfl rfl)
abbrev cX0_start : ByteArray := method_8_code
def yX0_start : MethodName := ⟨RX0, "start", "(LCrateDeck;II[J)I"⟩
def dkwX0_start_1 : List UInt8 := [172, 3, 172]
abbrev dktX0_start_1 : List UInt8 := dkwX0_start_1 ++ []
def dkwX0_start_0 : List UInt8 := [45, 3, 42, 27, 28, 182, 0, 33, 133, 80, 167, 0, 15, 58, 4, 4, 172, 58, 4, 5, 172, 58, 4, 6]
abbrev dktX0_start_0 : List UInt8 := dkwX0_start_0 ++ dktX0_start_1
theorem dksX0_start_0 : cX0_start.data.toList.drop 0 = dktX0_start_0 := by decide +kernel
theorem dksX0_start_1 : cX0_start.data.toList.drop 24 = dktX0_start_1 := dk_seg dksX0_start_0 24 rfl rfl
theorem dX0_start_0 : decode cX0_start 0 = .ok (.aload_n 3, 1) := dk_45 (dk_at dksX0_start_0 0 rfl rfl)
theorem dX0_start_1 : decode cX0_start 1 = .ok (.iconst 0, 1) := dk_3 (dk_at dksX0_start_0 1 rfl rfl)
theorem dX0_start_2 : decode cX0_start 2 = .ok (.aload_n 0, 1) := dk_42 (dk_at dksX0_start_0 2 rfl rfl)
theorem dX0_start_3 : decode cX0_start 3 = .ok (.iload_n 1, 1) := dk_27 (dk_at dksX0_start_0 3 rfl rfl)
theorem dX0_start_4 : decode cX0_start 4 = .ok (.iload_n 2, 1) := dk_28 (dk_at dksX0_start_0 4 rfl rfl)
theorem dX0_start_5 : decode cX0_start 5 = .ok (.invokevirtual 33, 3) := dk_182 0 33 (dk_at dksX0_start_0 5 rfl rfl)
theorem dX0_start_8 : decode cX0_start 8 = .ok (.i2l, 1) := dk_133 (dk_at dksX0_start_0 8 rfl rfl)
theorem dX0_start_9 : decode cX0_start 9 = .ok (.lastore, 1) := dk_80 (dk_at dksX0_start_0 9 rfl rfl)
theorem dX0_start_10 : decode cX0_start 10 = .ok (.goto 15, 3) := dk_167 0 15 (dk_at dksX0_start_0 10 rfl rfl)
theorem dX0_start_13 : decode cX0_start 13 = .ok (.astore 4, 2) := dk_58 4 (dk_at dksX0_start_0 13 rfl rfl)
theorem dX0_start_15 : decode cX0_start 15 = .ok (.iconst 1, 1) := dk_4 (dk_at dksX0_start_0 15 rfl rfl)
theorem dX0_start_16 : decode cX0_start 16 = .ok (.ireturn, 1) := dk_172 (dk_at dksX0_start_0 16 rfl rfl)
theorem dX0_start_17 : decode cX0_start 17 = .ok (.astore 4, 2) := dk_58 4 (dk_at dksX0_start_0 17 rfl rfl)
theorem dX0_start_19 : decode cX0_start 19 = .ok (.iconst 2, 1) := dk_5 (dk_at dksX0_start_0 19 rfl rfl)
theorem dX0_start_20 : decode cX0_start 20 = .ok (.ireturn, 1) := dk_172 (dk_at dksX0_start_0 20 rfl rfl)
theorem dX0_start_21 : decode cX0_start 21 = .ok (.astore 4, 2) := dk_58 4 (dk_at dksX0_start_0 21 rfl rfl)
theorem dX0_start_23 : decode cX0_start 23 = .ok (.iconst 3, 1) := dk_6 (dk_at dksX0_start_0 23 rfl rfl)
theorem dX0_start_24 : decode cX0_start 24 = .ok (.ireturn, 1) := dk_172 (dk_at dksX0_start_1 0 rfl rfl)
theorem dX0_start_25 : decode cX0_start 25 = .ok (.iconst 0, 1) := dk_3 (dk_at dksX0_start_1 1 rfl rfl)
theorem dX0_start_26 : decode cX0_start 26 = .ok (.ireturn, 1) := dk_172 (dk_at dksX0_start_1 2 rfl rfl)
abbrev cX0_stop : ByteArray := method_9_code
def yX0_stop : MethodName := ⟨RX0, "stop", "(LCrateDeck;I[J)I"⟩
def dkwX0_stop_0 : List UInt8 := [44, 3, 42, 27, 182, 0, 36, 133, 80, 167, 0, 6, 78, 4, 172, 3, 172]
abbrev dktX0_stop_0 : List UInt8 := dkwX0_stop_0 ++ []
theorem dksX0_stop_0 : cX0_stop.data.toList.drop 0 = dktX0_stop_0 := by decide +kernel
theorem dX0_stop_0 : decode cX0_stop 0 = .ok (.aload_n 2, 1) := dk_44 (dk_at dksX0_stop_0 0 rfl rfl)
theorem dX0_stop_1 : decode cX0_stop 1 = .ok (.iconst 0, 1) := dk_3 (dk_at dksX0_stop_0 1 rfl rfl)
theorem dX0_stop_2 : decode cX0_stop 2 = .ok (.aload_n 0, 1) := dk_42 (dk_at dksX0_stop_0 2 rfl rfl)
theorem dX0_stop_3 : decode cX0_stop 3 = .ok (.iload_n 1, 1) := dk_27 (dk_at dksX0_stop_0 3 rfl rfl)
theorem dX0_stop_4 : decode cX0_stop 4 = .ok (.invokevirtual 36, 3) := dk_182 0 36 (dk_at dksX0_stop_0 4 rfl rfl)
theorem dX0_stop_7 : decode cX0_stop 7 = .ok (.i2l, 1) := dk_133 (dk_at dksX0_stop_0 7 rfl rfl)
theorem dX0_stop_8 : decode cX0_stop 8 = .ok (.lastore, 1) := dk_80 (dk_at dksX0_stop_0 8 rfl rfl)
theorem dX0_stop_9 : decode cX0_stop 9 = .ok (.goto 6, 3) := dk_167 0 6 (dk_at dksX0_stop_0 9 rfl rfl)
theorem dX0_stop_12 : decode cX0_stop 12 = .ok (.astore_n 3, 1) := dk_78 (dk_at dksX0_stop_0 12 rfl rfl)
theorem dX0_stop_13 : decode cX0_stop 13 = .ok (.iconst 1, 1) := dk_4 (dk_at dksX0_stop_0 13 rfl rfl)
theorem dX0_stop_14 : decode cX0_stop 14 = .ok (.ireturn, 1) := dk_172 (dk_at dksX0_stop_0 14 rfl rfl)
theorem dX0_stop_15 : decode cX0_stop 15 = .ok (.iconst 0, 1) := dk_3 (dk_at dksX0_stop_0 15 rfl rfl)
theorem dX0_stop_16 : decode cX0_stop 16 = .ok (.ireturn, 1) := dk_172 (dk_at dksX0_stop_0 16 rfl rfl)
abbrev cX0_container : ByteArray := method_10_code
def yX0_container : MethodName := ⟨RX0, "container", "(LCrateDeck;II[J)I"⟩
def dkwX0_container_0 : List UInt8 := [45, 3, 42, 27, 28, 182, 0, 40, 133, 80, 167, 0, 11, 58, 4, 4, 172, 58, 4, 5, 172, 3, 172]
abbrev dktX0_container_0 : List UInt8 := dkwX0_container_0 ++ []
theorem dksX0_container_0 : cX0_container.data.toList.drop 0 = dktX0_container_0 := by decide +kernel
theorem dX0_container_0 : decode cX0_container 0 = .ok (.aload_n 3, 1) := dk_45 (dk_at dksX0_container_0 0 rfl rfl)
theorem dX0_container_1 : decode cX0_container 1 = .ok (.iconst 0, 1) := dk_3 (dk_at dksX0_container_0 1 rfl rfl)
theorem dX0_container_2 : decode cX0_container 2 = .ok (.aload_n 0, 1) := dk_42 (dk_at dksX0_container_0 2 rfl rfl)
theorem dX0_container_3 : decode cX0_container 3 = .ok (.iload_n 1, 1) := dk_27 (dk_at dksX0_container_0 3 rfl rfl)
theorem dX0_container_4 : decode cX0_container 4 = .ok (.iload_n 2, 1) := dk_28 (dk_at dksX0_container_0 4 rfl rfl)
theorem dX0_container_5 : decode cX0_container 5 = .ok (.invokevirtual 40, 3) := dk_182 0 40 (dk_at dksX0_container_0 5 rfl rfl)
theorem dX0_container_8 : decode cX0_container 8 = .ok (.i2l, 1) := dk_133 (dk_at dksX0_container_0 8 rfl rfl)
theorem dX0_container_9 : decode cX0_container 9 = .ok (.lastore, 1) := dk_80 (dk_at dksX0_container_0 9 rfl rfl)
theorem dX0_container_10 : decode cX0_container 10 = .ok (.goto 11, 3) := dk_167 0 11 (dk_at dksX0_container_0 10 rfl rfl)
theorem dX0_container_13 : decode cX0_container 13 = .ok (.astore 4, 2) := dk_58 4 (dk_at dksX0_container_0 13 rfl rfl)
theorem dX0_container_15 : decode cX0_container 15 = .ok (.iconst 1, 1) := dk_4 (dk_at dksX0_container_0 15 rfl rfl)
theorem dX0_container_16 : decode cX0_container 16 = .ok (.ireturn, 1) := dk_172 (dk_at dksX0_container_0 16 rfl rfl)
theorem dX0_container_17 : decode cX0_container 17 = .ok (.astore 4, 2) := dk_58 4 (dk_at dksX0_container_0 17 rfl rfl)
theorem dX0_container_19 : decode cX0_container 19 = .ok (.iconst 2, 1) := dk_5 (dk_at dksX0_container_0 19 rfl rfl)
theorem dX0_container_20 : decode cX0_container 20 = .ok (.ireturn, 1) := dk_172 (dk_at dksX0_container_0 20 rfl rfl)
theorem dX0_container_21 : decode cX0_container 21 = .ok (.iconst 0, 1) := dk_3 (dk_at dksX0_container_0 21 rfl rfl)
theorem dX0_container_22 : decode cX0_container 22 = .ok (.ireturn, 1) := dk_172 (dk_at dksX0_container_0 22 rfl rfl)
abbrev cX0_look : ByteArray := method_11_code
def yX0_look : MethodName := ⟨RX0, "look", "(LCrateDeck;II[J)I"⟩
def dkwX0_look_0 : List UInt8 := [45, 3, 42, 27, 28, 182, 0, 43, 133, 80, 167, 0, 11, 58, 4, 4, 172, 58, 4, 5, 172, 3, 172]
abbrev dktX0_look_0 : List UInt8 := dkwX0_look_0 ++ []
theorem dksX0_look_0 : cX0_look.data.toList.drop 0 = dktX0_look_0 := by decide +kernel
theorem dX0_look_0 : decode cX0_look 0 = .ok (.aload_n 3, 1) := dk_45 (dk_at dksX0_look_0 0 rfl rfl)
theorem dX0_look_1 : decode cX0_look 1 = .ok (.iconst 0, 1) := dk_3 (dk_at dksX0_look_0 1 rfl rfl)
theorem dX0_look_2 : decode cX0_look 2 = .ok (.aload_n 0, 1) := dk_42 (dk_at dksX0_look_0 2 rfl rfl)
theorem dX0_look_3 : decode cX0_look 3 = .ok (.iload_n 1, 1) := dk_27 (dk_at dksX0_look_0 3 rfl rfl)
theorem dX0_look_4 : decode cX0_look 4 = .ok (.iload_n 2, 1) := dk_28 (dk_at dksX0_look_0 4 rfl rfl)
theorem dX0_look_5 : decode cX0_look 5 = .ok (.invokevirtual 43, 3) := dk_182 0 43 (dk_at dksX0_look_0 5 rfl rfl)
theorem dX0_look_8 : decode cX0_look 8 = .ok (.i2l, 1) := dk_133 (dk_at dksX0_look_0 8 rfl rfl)
theorem dX0_look_9 : decode cX0_look 9 = .ok (.lastore, 1) := dk_80 (dk_at dksX0_look_0 9 rfl rfl)
theorem dX0_look_10 : decode cX0_look 10 = .ok (.goto 11, 3) := dk_167 0 11 (dk_at dksX0_look_0 10 rfl rfl)
theorem dX0_look_13 : decode cX0_look 13 = .ok (.astore 4, 2) := dk_58 4 (dk_at dksX0_look_0 13 rfl rfl)
theorem dX0_look_15 : decode cX0_look 15 = .ok (.iconst 1, 1) := dk_4 (dk_at dksX0_look_0 15 rfl rfl)
theorem dX0_look_16 : decode cX0_look 16 = .ok (.ireturn, 1) := dk_172 (dk_at dksX0_look_0 16 rfl rfl)
theorem dX0_look_17 : decode cX0_look 17 = .ok (.astore 4, 2) := dk_58 4 (dk_at dksX0_look_0 17 rfl rfl)
theorem dX0_look_19 : decode cX0_look 19 = .ok (.iconst 2, 1) := dk_5 (dk_at dksX0_look_0 19 rfl rfl)
theorem dX0_look_20 : decode cX0_look 20 = .ok (.ireturn, 1) := dk_172 (dk_at dksX0_look_0 20 rfl rfl)
theorem dX0_look_21 : decode cX0_look 21 = .ok (.iconst 0, 1) := dk_3 (dk_at dksX0_look_0 21 rfl rfl)
theorem dX0_look_22 : decode cX0_look 22 = .ok (.ireturn, 1) := dk_172 (dk_at dksX0_look_0 22 rfl rfl)
abbrev cX0_write : ByteArray := method_12_code
def yX0_write : MethodName := ⟨RX0, "write", "(LCrateDeck;III[J)I"⟩
def dkwX0_write_1 : List UInt8 := [58, 5, 6, 172, 3, 172]
abbrev dktX0_write_1 : List UInt8 := dkwX0_write_1 ++ []
def dkwX0_write_0 : List UInt8 := [25, 4, 3, 42, 27, 28, 29, 182, 0, 46, 133, 80, 167, 0, 15, 58, 5, 4, 172, 58, 5, 5, 172]
abbrev dktX0_write_0 : List UInt8 := dkwX0_write_0 ++ dktX0_write_1
theorem dksX0_write_0 : cX0_write.data.toList.drop 0 = dktX0_write_0 := by decide +kernel
theorem dksX0_write_1 : cX0_write.data.toList.drop 23 = dktX0_write_1 := dk_seg dksX0_write_0 23 rfl rfl
theorem dX0_write_0 : decode cX0_write 0 = .ok (.aload 4, 2) := dk_25 4 (dk_at dksX0_write_0 0 rfl rfl)
theorem dX0_write_2 : decode cX0_write 2 = .ok (.iconst 0, 1) := dk_3 (dk_at dksX0_write_0 2 rfl rfl)
theorem dX0_write_3 : decode cX0_write 3 = .ok (.aload_n 0, 1) := dk_42 (dk_at dksX0_write_0 3 rfl rfl)
theorem dX0_write_4 : decode cX0_write 4 = .ok (.iload_n 1, 1) := dk_27 (dk_at dksX0_write_0 4 rfl rfl)
theorem dX0_write_5 : decode cX0_write 5 = .ok (.iload_n 2, 1) := dk_28 (dk_at dksX0_write_0 5 rfl rfl)
theorem dX0_write_6 : decode cX0_write 6 = .ok (.iload_n 3, 1) := dk_29 (dk_at dksX0_write_0 6 rfl rfl)
theorem dX0_write_7 : decode cX0_write 7 = .ok (.invokevirtual 46, 3) := dk_182 0 46 (dk_at dksX0_write_0 7 rfl rfl)
theorem dX0_write_10 : decode cX0_write 10 = .ok (.i2l, 1) := dk_133 (dk_at dksX0_write_0 10 rfl rfl)
theorem dX0_write_11 : decode cX0_write 11 = .ok (.lastore, 1) := dk_80 (dk_at dksX0_write_0 11 rfl rfl)
theorem dX0_write_12 : decode cX0_write 12 = .ok (.goto 15, 3) := dk_167 0 15 (dk_at dksX0_write_0 12 rfl rfl)
theorem dX0_write_15 : decode cX0_write 15 = .ok (.astore 5, 2) := dk_58 5 (dk_at dksX0_write_0 15 rfl rfl)
theorem dX0_write_17 : decode cX0_write 17 = .ok (.iconst 1, 1) := dk_4 (dk_at dksX0_write_0 17 rfl rfl)
theorem dX0_write_18 : decode cX0_write 18 = .ok (.ireturn, 1) := dk_172 (dk_at dksX0_write_0 18 rfl rfl)
theorem dX0_write_19 : decode cX0_write 19 = .ok (.astore 5, 2) := dk_58 5 (dk_at dksX0_write_0 19 rfl rfl)
theorem dX0_write_21 : decode cX0_write 21 = .ok (.iconst 2, 1) := dk_5 (dk_at dksX0_write_0 21 rfl rfl)
theorem dX0_write_22 : decode cX0_write 22 = .ok (.ireturn, 1) := dk_172 (dk_at dksX0_write_0 22 rfl rfl)
theorem dX0_write_23 : decode cX0_write 23 = .ok (.astore 5, 2) := dk_58 5 (dk_at dksX0_write_1 0 rfl rfl)
theorem dX0_write_25 : decode cX0_write 25 = .ok (.iconst 3, 1) := dk_6 (dk_at dksX0_write_1 2 rfl rfl)
theorem dX0_write_26 : decode cX0_write 26 = .ok (.ireturn, 1) := dk_172 (dk_at dksX0_write_1 3 rfl rfl)
theorem dX0_write_27 : decode cX0_write 27 = .ok (.iconst 0, 1) := dk_3 (dk_at dksX0_write_1 4 rfl rfl)
theorem dX0_write_28 : decode cX0_write 28 = .ok (.ireturn, 1) := dk_172 (dk_at dksX0_write_1 5 rfl rfl)
abbrev cX0_makeFolder : ByteArray := method_13_code
def yX0_makeFolder : MethodName := ⟨RX0, "makeFolder", "(LCrateDeck;II)I"⟩
def dkwX0_makeFolder_0 : List UInt8 := [42, 27, 28, 182, 0, 49, 167, 0, 12, 78, 4, 172, 78, 5, 172, 78, 6, 172, 3, 172]
abbrev dktX0_makeFolder_0 : List UInt8 := dkwX0_makeFolder_0 ++ []
theorem dksX0_makeFolder_0 : cX0_makeFolder.data.toList.drop 0 = dktX0_makeFolder_0 := by decide +kernel
theorem dX0_makeFolder_0 : decode cX0_makeFolder 0 = .ok (.aload_n 0, 1) := dk_42 (dk_at dksX0_makeFolder_0 0 rfl rfl)
theorem dX0_makeFolder_1 : decode cX0_makeFolder 1 = .ok (.iload_n 1, 1) := dk_27 (dk_at dksX0_makeFolder_0 1 rfl rfl)
theorem dX0_makeFolder_2 : decode cX0_makeFolder 2 = .ok (.iload_n 2, 1) := dk_28 (dk_at dksX0_makeFolder_0 2 rfl rfl)
theorem dX0_makeFolder_3 : decode cX0_makeFolder 3 = .ok (.invokevirtual 49, 3) := dk_182 0 49 (dk_at dksX0_makeFolder_0 3 rfl rfl)
theorem dX0_makeFolder_6 : decode cX0_makeFolder 6 = .ok (.goto 12, 3) := dk_167 0 12 (dk_at dksX0_makeFolder_0 6 rfl rfl)
theorem dX0_makeFolder_9 : decode cX0_makeFolder 9 = .ok (.astore_n 3, 1) := dk_78 (dk_at dksX0_makeFolder_0 9 rfl rfl)
theorem dX0_makeFolder_10 : decode cX0_makeFolder 10 = .ok (.iconst 1, 1) := dk_4 (dk_at dksX0_makeFolder_0 10 rfl rfl)
theorem dX0_makeFolder_11 : decode cX0_makeFolder 11 = .ok (.ireturn, 1) := dk_172 (dk_at dksX0_makeFolder_0 11 rfl rfl)
theorem dX0_makeFolder_12 : decode cX0_makeFolder 12 = .ok (.astore_n 3, 1) := dk_78 (dk_at dksX0_makeFolder_0 12 rfl rfl)
theorem dX0_makeFolder_13 : decode cX0_makeFolder 13 = .ok (.iconst 2, 1) := dk_5 (dk_at dksX0_makeFolder_0 13 rfl rfl)
theorem dX0_makeFolder_14 : decode cX0_makeFolder 14 = .ok (.ireturn, 1) := dk_172 (dk_at dksX0_makeFolder_0 14 rfl rfl)
theorem dX0_makeFolder_15 : decode cX0_makeFolder 15 = .ok (.astore_n 3, 1) := dk_78 (dk_at dksX0_makeFolder_0 15 rfl rfl)
theorem dX0_makeFolder_16 : decode cX0_makeFolder 16 = .ok (.iconst 3, 1) := dk_6 (dk_at dksX0_makeFolder_0 16 rfl rfl)
theorem dX0_makeFolder_17 : decode cX0_makeFolder 17 = .ok (.ireturn, 1) := dk_172 (dk_at dksX0_makeFolder_0 17 rfl rfl)
theorem dX0_makeFolder_18 : decode cX0_makeFolder 18 = .ok (.iconst 0, 1) := dk_3 (dk_at dksX0_makeFolder_0 18 rfl rfl)
theorem dX0_makeFolder_19 : decode cX0_makeFolder 19 = .ok (.ireturn, 1) := dk_172 (dk_at dksX0_makeFolder_0 19 rfl rfl)
abbrev cX0_remove : ByteArray := method_14_code
def yX0_remove : MethodName := ⟨RX0, "remove", "(LCrateDeck;II[J)I"⟩
def dkwX0_remove_1 : List UInt8 := [172, 3, 172]
abbrev dktX0_remove_1 : List UInt8 := dkwX0_remove_1 ++ []
def dkwX0_remove_0 : List UInt8 := [45, 3, 42, 27, 28, 182, 0, 53, 133, 80, 167, 0, 15, 58, 4, 4, 172, 58, 4, 5, 172, 58, 4, 6]
abbrev dktX0_remove_0 : List UInt8 := dkwX0_remove_0 ++ dktX0_remove_1
theorem dksX0_remove_0 : cX0_remove.data.toList.drop 0 = dktX0_remove_0 := by decide +kernel
theorem dksX0_remove_1 : cX0_remove.data.toList.drop 24 = dktX0_remove_1 := dk_seg dksX0_remove_0 24 rfl rfl
theorem dX0_remove_0 : decode cX0_remove 0 = .ok (.aload_n 3, 1) := dk_45 (dk_at dksX0_remove_0 0 rfl rfl)
theorem dX0_remove_1 : decode cX0_remove 1 = .ok (.iconst 0, 1) := dk_3 (dk_at dksX0_remove_0 1 rfl rfl)
theorem dX0_remove_2 : decode cX0_remove 2 = .ok (.aload_n 0, 1) := dk_42 (dk_at dksX0_remove_0 2 rfl rfl)
theorem dX0_remove_3 : decode cX0_remove 3 = .ok (.iload_n 1, 1) := dk_27 (dk_at dksX0_remove_0 3 rfl rfl)
theorem dX0_remove_4 : decode cX0_remove 4 = .ok (.iload_n 2, 1) := dk_28 (dk_at dksX0_remove_0 4 rfl rfl)
theorem dX0_remove_5 : decode cX0_remove 5 = .ok (.invokevirtual 53, 3) := dk_182 0 53 (dk_at dksX0_remove_0 5 rfl rfl)
theorem dX0_remove_8 : decode cX0_remove 8 = .ok (.i2l, 1) := dk_133 (dk_at dksX0_remove_0 8 rfl rfl)
theorem dX0_remove_9 : decode cX0_remove 9 = .ok (.lastore, 1) := dk_80 (dk_at dksX0_remove_0 9 rfl rfl)
theorem dX0_remove_10 : decode cX0_remove 10 = .ok (.goto 15, 3) := dk_167 0 15 (dk_at dksX0_remove_0 10 rfl rfl)
theorem dX0_remove_13 : decode cX0_remove 13 = .ok (.astore 4, 2) := dk_58 4 (dk_at dksX0_remove_0 13 rfl rfl)
theorem dX0_remove_15 : decode cX0_remove 15 = .ok (.iconst 1, 1) := dk_4 (dk_at dksX0_remove_0 15 rfl rfl)
theorem dX0_remove_16 : decode cX0_remove 16 = .ok (.ireturn, 1) := dk_172 (dk_at dksX0_remove_0 16 rfl rfl)
theorem dX0_remove_17 : decode cX0_remove 17 = .ok (.astore 4, 2) := dk_58 4 (dk_at dksX0_remove_0 17 rfl rfl)
theorem dX0_remove_19 : decode cX0_remove 19 = .ok (.iconst 2, 1) := dk_5 (dk_at dksX0_remove_0 19 rfl rfl)
theorem dX0_remove_20 : decode cX0_remove 20 = .ok (.ireturn, 1) := dk_172 (dk_at dksX0_remove_0 20 rfl rfl)
theorem dX0_remove_21 : decode cX0_remove 21 = .ok (.astore 4, 2) := dk_58 4 (dk_at dksX0_remove_0 21 rfl rfl)
theorem dX0_remove_23 : decode cX0_remove 23 = .ok (.iconst 3, 1) := dk_6 (dk_at dksX0_remove_0 23 rfl rfl)
theorem dX0_remove_24 : decode cX0_remove 24 = .ok (.ireturn, 1) := dk_172 (dk_at dksX0_remove_1 0 rfl rfl)
theorem dX0_remove_25 : decode cX0_remove 25 = .ok (.iconst 0, 1) := dk_3 (dk_at dksX0_remove_1 1 rfl rfl)
theorem dX0_remove_26 : decode cX0_remove 26 = .ok (.ireturn, 1) := dk_172 (dk_at dksX0_remove_1 2 rfl rfl)
abbrev cX0_move : ByteArray := method_15_code
def yX0_move : MethodName := ⟨RX0, "move", "(LCrateDeck;III)I"⟩
def dkwX0_move_0 : List UInt8 := [42, 27, 28, 29, 182, 0, 56, 167, 0, 15, 58, 4, 4, 172, 58, 4, 5, 172, 58, 4, 6, 172, 3, 172]
abbrev dktX0_move_0 : List UInt8 := dkwX0_move_0 ++ []
theorem dksX0_move_0 : cX0_move.data.toList.drop 0 = dktX0_move_0 := by decide +kernel
theorem dX0_move_0 : decode cX0_move 0 = .ok (.aload_n 0, 1) := dk_42 (dk_at dksX0_move_0 0 rfl rfl)
theorem dX0_move_1 : decode cX0_move 1 = .ok (.iload_n 1, 1) := dk_27 (dk_at dksX0_move_0 1 rfl rfl)
theorem dX0_move_2 : decode cX0_move 2 = .ok (.iload_n 2, 1) := dk_28 (dk_at dksX0_move_0 2 rfl rfl)
theorem dX0_move_3 : decode cX0_move 3 = .ok (.iload_n 3, 1) := dk_29 (dk_at dksX0_move_0 3 rfl rfl)
theorem dX0_move_4 : decode cX0_move 4 = .ok (.invokevirtual 56, 3) := dk_182 0 56 (dk_at dksX0_move_0 4 rfl rfl)
theorem dX0_move_7 : decode cX0_move 7 = .ok (.goto 15, 3) := dk_167 0 15 (dk_at dksX0_move_0 7 rfl rfl)
theorem dX0_move_10 : decode cX0_move 10 = .ok (.astore 4, 2) := dk_58 4 (dk_at dksX0_move_0 10 rfl rfl)
theorem dX0_move_12 : decode cX0_move 12 = .ok (.iconst 1, 1) := dk_4 (dk_at dksX0_move_0 12 rfl rfl)
theorem dX0_move_13 : decode cX0_move 13 = .ok (.ireturn, 1) := dk_172 (dk_at dksX0_move_0 13 rfl rfl)
theorem dX0_move_14 : decode cX0_move 14 = .ok (.astore 4, 2) := dk_58 4 (dk_at dksX0_move_0 14 rfl rfl)
theorem dX0_move_16 : decode cX0_move 16 = .ok (.iconst 2, 1) := dk_5 (dk_at dksX0_move_0 16 rfl rfl)
theorem dX0_move_17 : decode cX0_move 17 = .ok (.ireturn, 1) := dk_172 (dk_at dksX0_move_0 17 rfl rfl)
theorem dX0_move_18 : decode cX0_move 18 = .ok (.astore 4, 2) := dk_58 4 (dk_at dksX0_move_0 18 rfl rfl)
theorem dX0_move_20 : decode cX0_move 20 = .ok (.iconst 3, 1) := dk_6 (dk_at dksX0_move_0 20 rfl rfl)
theorem dX0_move_21 : decode cX0_move 21 = .ok (.ireturn, 1) := dk_172 (dk_at dksX0_move_0 21 rfl rfl)
theorem dX0_move_22 : decode cX0_move 22 = .ok (.iconst 0, 1) := dk_3 (dk_at dksX0_move_0 22 rfl rfl)
theorem dX0_move_23 : decode cX0_move 23 = .ok (.ireturn, 1) := dk_172 (dk_at dksX0_move_0 23 rfl rfl)
abbrev cX0_mount : ByteArray := method_16_code
def yX0_mount : MethodName := ⟨RX0, "mount", "(LCrateDeck;III)I"⟩
def dkwX0_mount_0 : List UInt8 := [42, 27, 28, 29, 182, 0, 60, 167, 0, 15, 58, 4, 4, 172, 58, 4, 5, 172, 58, 4, 6, 172, 3, 172]
abbrev dktX0_mount_0 : List UInt8 := dkwX0_mount_0 ++ []
theorem dksX0_mount_0 : cX0_mount.data.toList.drop 0 = dktX0_mount_0 := by decide +kernel
theorem dX0_mount_0 : decode cX0_mount 0 = .ok (.aload_n 0, 1) := dk_42 (dk_at dksX0_mount_0 0 rfl rfl)
theorem dX0_mount_1 : decode cX0_mount 1 = .ok (.iload_n 1, 1) := dk_27 (dk_at dksX0_mount_0 1 rfl rfl)
theorem dX0_mount_2 : decode cX0_mount 2 = .ok (.iload_n 2, 1) := dk_28 (dk_at dksX0_mount_0 2 rfl rfl)
theorem dX0_mount_3 : decode cX0_mount 3 = .ok (.iload_n 3, 1) := dk_29 (dk_at dksX0_mount_0 3 rfl rfl)
theorem dX0_mount_4 : decode cX0_mount 4 = .ok (.invokevirtual 60, 3) := dk_182 0 60 (dk_at dksX0_mount_0 4 rfl rfl)
theorem dX0_mount_7 : decode cX0_mount 7 = .ok (.goto 15, 3) := dk_167 0 15 (dk_at dksX0_mount_0 7 rfl rfl)
theorem dX0_mount_10 : decode cX0_mount 10 = .ok (.astore 4, 2) := dk_58 4 (dk_at dksX0_mount_0 10 rfl rfl)
theorem dX0_mount_12 : decode cX0_mount 12 = .ok (.iconst 1, 1) := dk_4 (dk_at dksX0_mount_0 12 rfl rfl)
theorem dX0_mount_13 : decode cX0_mount 13 = .ok (.ireturn, 1) := dk_172 (dk_at dksX0_mount_0 13 rfl rfl)
theorem dX0_mount_14 : decode cX0_mount 14 = .ok (.astore 4, 2) := dk_58 4 (dk_at dksX0_mount_0 14 rfl rfl)
theorem dX0_mount_16 : decode cX0_mount 16 = .ok (.iconst 2, 1) := dk_5 (dk_at dksX0_mount_0 16 rfl rfl)
theorem dX0_mount_17 : decode cX0_mount 17 = .ok (.ireturn, 1) := dk_172 (dk_at dksX0_mount_0 17 rfl rfl)
theorem dX0_mount_18 : decode cX0_mount 18 = .ok (.astore 4, 2) := dk_58 4 (dk_at dksX0_mount_0 18 rfl rfl)
theorem dX0_mount_20 : decode cX0_mount 20 = .ok (.iconst 3, 1) := dk_6 (dk_at dksX0_mount_0 20 rfl rfl)
theorem dX0_mount_21 : decode cX0_mount 21 = .ok (.ireturn, 1) := dk_172 (dk_at dksX0_mount_0 21 rfl rfl)
theorem dX0_mount_22 : decode cX0_mount 22 = .ok (.iconst 0, 1) := dk_3 (dk_at dksX0_mount_0 22 rfl rfl)
theorem dX0_mount_23 : decode cX0_mount 23 = .ok (.ireturn, 1) := dk_172 (dk_at dksX0_mount_0 23 rfl rfl)
abbrev cX0_commit : ByteArray := method_17_code
def yX0_commit : MethodName := ⟨RX0, "commit", "(LCrateDeck;I[J)I"⟩
def dkwX0_commit_0 : List UInt8 := [44, 3, 42, 27, 182, 0, 63, 133, 80, 167, 0, 9, 78, 4, 172, 78, 5, 172, 3, 172]
abbrev dktX0_commit_0 : List UInt8 := dkwX0_commit_0 ++ []
theorem dksX0_commit_0 : cX0_commit.data.toList.drop 0 = dktX0_commit_0 := by decide +kernel
theorem dX0_commit_0 : decode cX0_commit 0 = .ok (.aload_n 2, 1) := dk_44 (dk_at dksX0_commit_0 0 rfl rfl)
theorem dX0_commit_1 : decode cX0_commit 1 = .ok (.iconst 0, 1) := dk_3 (dk_at dksX0_commit_0 1 rfl rfl)
theorem dX0_commit_2 : decode cX0_commit 2 = .ok (.aload_n 0, 1) := dk_42 (dk_at dksX0_commit_0 2 rfl rfl)
theorem dX0_commit_3 : decode cX0_commit 3 = .ok (.iload_n 1, 1) := dk_27 (dk_at dksX0_commit_0 3 rfl rfl)
theorem dX0_commit_4 : decode cX0_commit 4 = .ok (.invokevirtual 63, 3) := dk_182 0 63 (dk_at dksX0_commit_0 4 rfl rfl)
theorem dX0_commit_7 : decode cX0_commit 7 = .ok (.i2l, 1) := dk_133 (dk_at dksX0_commit_0 7 rfl rfl)
theorem dX0_commit_8 : decode cX0_commit 8 = .ok (.lastore, 1) := dk_80 (dk_at dksX0_commit_0 8 rfl rfl)
theorem dX0_commit_9 : decode cX0_commit 9 = .ok (.goto 9, 3) := dk_167 0 9 (dk_at dksX0_commit_0 9 rfl rfl)
theorem dX0_commit_12 : decode cX0_commit 12 = .ok (.astore_n 3, 1) := dk_78 (dk_at dksX0_commit_0 12 rfl rfl)
theorem dX0_commit_13 : decode cX0_commit 13 = .ok (.iconst 1, 1) := dk_4 (dk_at dksX0_commit_0 13 rfl rfl)
theorem dX0_commit_14 : decode cX0_commit 14 = .ok (.ireturn, 1) := dk_172 (dk_at dksX0_commit_0 14 rfl rfl)
theorem dX0_commit_15 : decode cX0_commit 15 = .ok (.astore_n 3, 1) := dk_78 (dk_at dksX0_commit_0 15 rfl rfl)
theorem dX0_commit_16 : decode cX0_commit 16 = .ok (.iconst 2, 1) := dk_5 (dk_at dksX0_commit_0 16 rfl rfl)
theorem dX0_commit_17 : decode cX0_commit 17 = .ok (.ireturn, 1) := dk_172 (dk_at dksX0_commit_0 17 rfl rfl)
theorem dX0_commit_18 : decode cX0_commit 18 = .ok (.iconst 0, 1) := dk_3 (dk_at dksX0_commit_0 18 rfl rfl)
theorem dX0_commit_19 : decode cX0_commit 19 = .ok (.ireturn, 1) := dk_172 (dk_at dksX0_commit_0 19 rfl rfl)
abbrev cX0_user : ByteArray := method_18_code
def yX0_user : MethodName := ⟨RX0, "user", "(LCrateDeck;I[J)I"⟩
def dkwX0_user_0 : List UInt8 := [44, 3, 42, 27, 182, 0, 66, 133, 80, 167, 0, 9, 78, 4, 172, 78, 5, 172, 3, 172]
abbrev dktX0_user_0 : List UInt8 := dkwX0_user_0 ++ []
theorem dksX0_user_0 : cX0_user.data.toList.drop 0 = dktX0_user_0 := by decide +kernel
theorem dX0_user_0 : decode cX0_user 0 = .ok (.aload_n 2, 1) := dk_44 (dk_at dksX0_user_0 0 rfl rfl)
theorem dX0_user_1 : decode cX0_user 1 = .ok (.iconst 0, 1) := dk_3 (dk_at dksX0_user_0 1 rfl rfl)
theorem dX0_user_2 : decode cX0_user 2 = .ok (.aload_n 0, 1) := dk_42 (dk_at dksX0_user_0 2 rfl rfl)
theorem dX0_user_3 : decode cX0_user 3 = .ok (.iload_n 1, 1) := dk_27 (dk_at dksX0_user_0 3 rfl rfl)
theorem dX0_user_4 : decode cX0_user 4 = .ok (.invokevirtual 66, 3) := dk_182 0 66 (dk_at dksX0_user_0 4 rfl rfl)
theorem dX0_user_7 : decode cX0_user 7 = .ok (.i2l, 1) := dk_133 (dk_at dksX0_user_0 7 rfl rfl)
theorem dX0_user_8 : decode cX0_user 8 = .ok (.lastore, 1) := dk_80 (dk_at dksX0_user_0 8 rfl rfl)
theorem dX0_user_9 : decode cX0_user 9 = .ok (.goto 9, 3) := dk_167 0 9 (dk_at dksX0_user_0 9 rfl rfl)
theorem dX0_user_12 : decode cX0_user 12 = .ok (.astore_n 3, 1) := dk_78 (dk_at dksX0_user_0 12 rfl rfl)
theorem dX0_user_13 : decode cX0_user 13 = .ok (.iconst 1, 1) := dk_4 (dk_at dksX0_user_0 13 rfl rfl)
theorem dX0_user_14 : decode cX0_user 14 = .ok (.ireturn, 1) := dk_172 (dk_at dksX0_user_0 14 rfl rfl)
theorem dX0_user_15 : decode cX0_user 15 = .ok (.astore_n 3, 1) := dk_78 (dk_at dksX0_user_0 15 rfl rfl)
theorem dX0_user_16 : decode cX0_user 16 = .ok (.iconst 2, 1) := dk_5 (dk_at dksX0_user_0 16 rfl rfl)
theorem dX0_user_17 : decode cX0_user 17 = .ok (.ireturn, 1) := dk_172 (dk_at dksX0_user_0 17 rfl rfl)
theorem dX0_user_18 : decode cX0_user 18 = .ok (.iconst 0, 1) := dk_3 (dk_at dksX0_user_0 18 rfl rfl)
theorem dX0_user_19 : decode cX0_user 19 = .ok (.ireturn, 1) := dk_172 (dk_at dksX0_user_0 19 rfl rfl)
abbrev cX0_range : ByteArray := method_19_code
def yX0_range : MethodName := ⟨RX0, "range", "(LCrateDeck;IIII[J)I"⟩
def dkwX0_range_1 : List UInt8 := [172, 58, 6, 6, 172, 3, 172]
abbrev dktX0_range_1 : List UInt8 := dkwX0_range_1 ++ []
def dkwX0_range_0 : List UInt8 := [25, 5, 3, 42, 27, 28, 29, 21, 4, 182, 0, 69, 133, 80, 167, 0, 15, 58, 6, 4, 172, 58, 6, 5]
abbrev dktX0_range_0 : List UInt8 := dkwX0_range_0 ++ dktX0_range_1
theorem dksX0_range_0 : cX0_range.data.toList.drop 0 = dktX0_range_0 := by decide +kernel
theorem dksX0_range_1 : cX0_range.data.toList.drop 24 = dktX0_range_1 := dk_seg dksX0_range_0 24 rfl rfl
theorem dX0_range_0 : decode cX0_range 0 = .ok (.aload 5, 2) := dk_25 5 (dk_at dksX0_range_0 0 rfl rfl)
theorem dX0_range_2 : decode cX0_range 2 = .ok (.iconst 0, 1) := dk_3 (dk_at dksX0_range_0 2 rfl rfl)
theorem dX0_range_3 : decode cX0_range 3 = .ok (.aload_n 0, 1) := dk_42 (dk_at dksX0_range_0 3 rfl rfl)
theorem dX0_range_4 : decode cX0_range 4 = .ok (.iload_n 1, 1) := dk_27 (dk_at dksX0_range_0 4 rfl rfl)
theorem dX0_range_5 : decode cX0_range 5 = .ok (.iload_n 2, 1) := dk_28 (dk_at dksX0_range_0 5 rfl rfl)
theorem dX0_range_6 : decode cX0_range 6 = .ok (.iload_n 3, 1) := dk_29 (dk_at dksX0_range_0 6 rfl rfl)
theorem dX0_range_7 : decode cX0_range 7 = .ok (.iload 4, 2) := dk_21 4 (dk_at dksX0_range_0 7 rfl rfl)
theorem dX0_range_9 : decode cX0_range 9 = .ok (.invokevirtual 69, 3) := dk_182 0 69 (dk_at dksX0_range_0 9 rfl rfl)
theorem dX0_range_12 : decode cX0_range 12 = .ok (.i2l, 1) := dk_133 (dk_at dksX0_range_0 12 rfl rfl)
theorem dX0_range_13 : decode cX0_range 13 = .ok (.lastore, 1) := dk_80 (dk_at dksX0_range_0 13 rfl rfl)
theorem dX0_range_14 : decode cX0_range 14 = .ok (.goto 15, 3) := dk_167 0 15 (dk_at dksX0_range_0 14 rfl rfl)
theorem dX0_range_17 : decode cX0_range 17 = .ok (.astore 6, 2) := dk_58 6 (dk_at dksX0_range_0 17 rfl rfl)
theorem dX0_range_19 : decode cX0_range 19 = .ok (.iconst 1, 1) := dk_4 (dk_at dksX0_range_0 19 rfl rfl)
theorem dX0_range_20 : decode cX0_range 20 = .ok (.ireturn, 1) := dk_172 (dk_at dksX0_range_0 20 rfl rfl)
theorem dX0_range_21 : decode cX0_range 21 = .ok (.astore 6, 2) := dk_58 6 (dk_at dksX0_range_0 21 rfl rfl)
theorem dX0_range_23 : decode cX0_range 23 = .ok (.iconst 2, 1) := dk_5 (dk_at dksX0_range_0 23 rfl rfl)
theorem dX0_range_24 : decode cX0_range 24 = .ok (.ireturn, 1) := dk_172 (dk_at dksX0_range_1 0 rfl rfl)
theorem dX0_range_25 : decode cX0_range 25 = .ok (.astore 6, 2) := dk_58 6 (dk_at dksX0_range_1 1 rfl rfl)
theorem dX0_range_27 : decode cX0_range 27 = .ok (.iconst 3, 1) := dk_6 (dk_at dksX0_range_1 3 rfl rfl)
theorem dX0_range_28 : decode cX0_range 28 = .ok (.ireturn, 1) := dk_172 (dk_at dksX0_range_1 4 rfl rfl)
theorem dX0_range_29 : decode cX0_range 29 = .ok (.iconst 0, 1) := dk_3 (dk_at dksX0_range_1 5 rfl rfl)
theorem dX0_range_30 : decode cX0_range 30 = .ok (.ireturn, 1) := dk_172 (dk_at dksX0_range_1 6 rfl rfl)
abbrev cX0_hostId : ByteArray := method_20_code
def yX0_hostId : MethodName := ⟨RX0, "hostId", "(LCrateDeck;II[J)I"⟩
def dkwX0_hostId_0 : List UInt8 := [45, 3, 42, 27, 28, 182, 0, 73, 133, 80, 167, 0, 11, 58, 4, 4, 172, 58, 4, 5, 172, 3, 172]
abbrev dktX0_hostId_0 : List UInt8 := dkwX0_hostId_0 ++ []
theorem dksX0_hostId_0 : cX0_hostId.data.toList.drop 0 = dktX0_hostId_0 := by decide +kernel
theorem dX0_hostId_0 : decode cX0_hostId 0 = .ok (.aload_n 3, 1) := dk_45 (dk_at dksX0_hostId_0 0 rfl rfl)
theorem dX0_hostId_1 : decode cX0_hostId 1 = .ok (.iconst 0, 1) := dk_3 (dk_at dksX0_hostId_0 1 rfl rfl)
theorem dX0_hostId_2 : decode cX0_hostId 2 = .ok (.aload_n 0, 1) := dk_42 (dk_at dksX0_hostId_0 2 rfl rfl)
theorem dX0_hostId_3 : decode cX0_hostId 3 = .ok (.iload_n 1, 1) := dk_27 (dk_at dksX0_hostId_0 3 rfl rfl)
theorem dX0_hostId_4 : decode cX0_hostId 4 = .ok (.iload_n 2, 1) := dk_28 (dk_at dksX0_hostId_0 4 rfl rfl)
theorem dX0_hostId_5 : decode cX0_hostId 5 = .ok (.invokevirtual 73, 3) := dk_182 0 73 (dk_at dksX0_hostId_0 5 rfl rfl)
theorem dX0_hostId_8 : decode cX0_hostId 8 = .ok (.i2l, 1) := dk_133 (dk_at dksX0_hostId_0 8 rfl rfl)
theorem dX0_hostId_9 : decode cX0_hostId 9 = .ok (.lastore, 1) := dk_80 (dk_at dksX0_hostId_0 9 rfl rfl)
theorem dX0_hostId_10 : decode cX0_hostId 10 = .ok (.goto 11, 3) := dk_167 0 11 (dk_at dksX0_hostId_0 10 rfl rfl)
theorem dX0_hostId_13 : decode cX0_hostId 13 = .ok (.astore 4, 2) := dk_58 4 (dk_at dksX0_hostId_0 13 rfl rfl)
theorem dX0_hostId_15 : decode cX0_hostId 15 = .ok (.iconst 1, 1) := dk_4 (dk_at dksX0_hostId_0 15 rfl rfl)
theorem dX0_hostId_16 : decode cX0_hostId 16 = .ok (.ireturn, 1) := dk_172 (dk_at dksX0_hostId_0 16 rfl rfl)
theorem dX0_hostId_17 : decode cX0_hostId 17 = .ok (.astore 4, 2) := dk_58 4 (dk_at dksX0_hostId_0 17 rfl rfl)
theorem dX0_hostId_19 : decode cX0_hostId 19 = .ok (.iconst 2, 1) := dk_5 (dk_at dksX0_hostId_0 19 rfl rfl)
theorem dX0_hostId_20 : decode cX0_hostId 20 = .ok (.ireturn, 1) := dk_172 (dk_at dksX0_hostId_0 20 rfl rfl)
theorem dX0_hostId_21 : decode cX0_hostId 21 = .ok (.iconst 0, 1) := dk_3 (dk_at dksX0_hostId_0 21 rfl rfl)
theorem dX0_hostId_22 : decode cX0_hostId 22 = .ok (.ireturn, 1) := dk_172 (dk_at dksX0_hostId_0 22 rfl rfl)
abbrev cX0_canAct : ByteArray := method_21_code
def yX0_canAct : MethodName := ⟨RX0, "canAct", "(LCrateDeck;II[J)I"⟩
def dkwX0_canAct_1 : List UInt8 := [3, 172]
abbrev dktX0_canAct_1 : List UInt8 := dkwX0_canAct_1 ++ []
def dkwX0_canAct_0 : List UInt8 := [45, 3, 42, 27, 28, 182, 0, 76, 153, 0, 7, 10, 167, 0, 4, 9, 80, 167, 0, 7, 58, 4, 4, 172]
abbrev dktX0_canAct_0 : List UInt8 := dkwX0_canAct_0 ++ dktX0_canAct_1
theorem dksX0_canAct_0 : cX0_canAct.data.toList.drop 0 = dktX0_canAct_0 := by decide +kernel
theorem dksX0_canAct_1 : cX0_canAct.data.toList.drop 24 = dktX0_canAct_1 := dk_seg dksX0_canAct_0 24 rfl rfl
theorem dX0_canAct_0 : decode cX0_canAct 0 = .ok (.aload_n 3, 1) := dk_45 (dk_at dksX0_canAct_0 0 rfl rfl)
theorem dX0_canAct_1 : decode cX0_canAct 1 = .ok (.iconst 0, 1) := dk_3 (dk_at dksX0_canAct_0 1 rfl rfl)
theorem dX0_canAct_2 : decode cX0_canAct 2 = .ok (.aload_n 0, 1) := dk_42 (dk_at dksX0_canAct_0 2 rfl rfl)
theorem dX0_canAct_3 : decode cX0_canAct 3 = .ok (.iload_n 1, 1) := dk_27 (dk_at dksX0_canAct_0 3 rfl rfl)
theorem dX0_canAct_4 : decode cX0_canAct 4 = .ok (.iload_n 2, 1) := dk_28 (dk_at dksX0_canAct_0 4 rfl rfl)
theorem dX0_canAct_5 : decode cX0_canAct 5 = .ok (.invokevirtual 76, 3) := dk_182 0 76 (dk_at dksX0_canAct_0 5 rfl rfl)
theorem dX0_canAct_8 : decode cX0_canAct 8 = .ok (.ifCond .eq 7, 3) := dk_153 0 7 (dk_at dksX0_canAct_0 8 rfl rfl)
theorem dX0_canAct_11 : decode cX0_canAct 11 = .ok (.lconst 1, 1) := dk_10 (dk_at dksX0_canAct_0 11 rfl rfl)
theorem dX0_canAct_12 : decode cX0_canAct 12 = .ok (.goto 4, 3) := dk_167 0 4 (dk_at dksX0_canAct_0 12 rfl rfl)
theorem dX0_canAct_15 : decode cX0_canAct 15 = .ok (.lconst 0, 1) := dk_9 (dk_at dksX0_canAct_0 15 rfl rfl)
theorem dX0_canAct_16 : decode cX0_canAct 16 = .ok (.lastore, 1) := dk_80 (dk_at dksX0_canAct_0 16 rfl rfl)
theorem dX0_canAct_17 : decode cX0_canAct 17 = .ok (.goto 7, 3) := dk_167 0 7 (dk_at dksX0_canAct_0 17 rfl rfl)
theorem dX0_canAct_20 : decode cX0_canAct 20 = .ok (.astore 4, 2) := dk_58 4 (dk_at dksX0_canAct_0 20 rfl rfl)
theorem dX0_canAct_22 : decode cX0_canAct 22 = .ok (.iconst 1, 1) := dk_4 (dk_at dksX0_canAct_0 22 rfl rfl)
theorem dX0_canAct_23 : decode cX0_canAct 23 = .ok (.ireturn, 1) := dk_172 (dk_at dksX0_canAct_0 23 rfl rfl)
theorem dX0_canAct_24 : decode cX0_canAct 24 = .ok (.iconst 0, 1) := dk_3 (dk_at dksX0_canAct_1 0 rfl rfl)
theorem dX0_canAct_25 : decode cX0_canAct 25 = .ok (.ireturn, 1) := dk_172 (dk_at dksX0_canAct_1 1 rfl rfl)
abbrev cX0_group : ByteArray := method_22_code
def yX0_group : MethodName := ⟨RX0, "group", "(LCrateDeck;IIII[J)I"⟩
def dkwX0_group_1 : List UInt8 := [172, 58, 6, 6, 172, 3, 172]
abbrev dktX0_group_1 : List UInt8 := dkwX0_group_1 ++ []
def dkwX0_group_0 : List UInt8 := [25, 5, 3, 42, 27, 28, 29, 21, 4, 182, 0, 80, 133, 80, 167, 0, 15, 58, 6, 4, 172, 58, 6, 5]
abbrev dktX0_group_0 : List UInt8 := dkwX0_group_0 ++ dktX0_group_1
theorem dksX0_group_0 : cX0_group.data.toList.drop 0 = dktX0_group_0 := by decide +kernel
theorem dksX0_group_1 : cX0_group.data.toList.drop 24 = dktX0_group_1 := dk_seg dksX0_group_0 24 rfl rfl
theorem dX0_group_0 : decode cX0_group 0 = .ok (.aload 5, 2) := dk_25 5 (dk_at dksX0_group_0 0 rfl rfl)
theorem dX0_group_2 : decode cX0_group 2 = .ok (.iconst 0, 1) := dk_3 (dk_at dksX0_group_0 2 rfl rfl)
theorem dX0_group_3 : decode cX0_group 3 = .ok (.aload_n 0, 1) := dk_42 (dk_at dksX0_group_0 3 rfl rfl)
theorem dX0_group_4 : decode cX0_group 4 = .ok (.iload_n 1, 1) := dk_27 (dk_at dksX0_group_0 4 rfl rfl)
theorem dX0_group_5 : decode cX0_group 5 = .ok (.iload_n 2, 1) := dk_28 (dk_at dksX0_group_0 5 rfl rfl)
theorem dX0_group_6 : decode cX0_group 6 = .ok (.iload_n 3, 1) := dk_29 (dk_at dksX0_group_0 6 rfl rfl)
theorem dX0_group_7 : decode cX0_group 7 = .ok (.iload 4, 2) := dk_21 4 (dk_at dksX0_group_0 7 rfl rfl)
theorem dX0_group_9 : decode cX0_group 9 = .ok (.invokevirtual 80, 3) := dk_182 0 80 (dk_at dksX0_group_0 9 rfl rfl)
theorem dX0_group_12 : decode cX0_group 12 = .ok (.i2l, 1) := dk_133 (dk_at dksX0_group_0 12 rfl rfl)
theorem dX0_group_13 : decode cX0_group 13 = .ok (.lastore, 1) := dk_80 (dk_at dksX0_group_0 13 rfl rfl)
theorem dX0_group_14 : decode cX0_group 14 = .ok (.goto 15, 3) := dk_167 0 15 (dk_at dksX0_group_0 14 rfl rfl)
theorem dX0_group_17 : decode cX0_group 17 = .ok (.astore 6, 2) := dk_58 6 (dk_at dksX0_group_0 17 rfl rfl)
theorem dX0_group_19 : decode cX0_group 19 = .ok (.iconst 1, 1) := dk_4 (dk_at dksX0_group_0 19 rfl rfl)
theorem dX0_group_20 : decode cX0_group 20 = .ok (.ireturn, 1) := dk_172 (dk_at dksX0_group_0 20 rfl rfl)
theorem dX0_group_21 : decode cX0_group 21 = .ok (.astore 6, 2) := dk_58 6 (dk_at dksX0_group_0 21 rfl rfl)
theorem dX0_group_23 : decode cX0_group 23 = .ok (.iconst 2, 1) := dk_5 (dk_at dksX0_group_0 23 rfl rfl)
theorem dX0_group_24 : decode cX0_group 24 = .ok (.ireturn, 1) := dk_172 (dk_at dksX0_group_1 0 rfl rfl)
theorem dX0_group_25 : decode cX0_group 25 = .ok (.astore 6, 2) := dk_58 6 (dk_at dksX0_group_1 1 rfl rfl)
theorem dX0_group_27 : decode cX0_group 27 = .ok (.iconst 3, 1) := dk_6 (dk_at dksX0_group_1 3 rfl rfl)
theorem dX0_group_28 : decode cX0_group 28 = .ok (.ireturn, 1) := dk_172 (dk_at dksX0_group_1 4 rfl rfl)
theorem dX0_group_29 : decode cX0_group 29 = .ok (.iconst 0, 1) := dk_3 (dk_at dksX0_group_1 5 rfl rfl)
theorem dX0_group_30 : decode cX0_group 30 = .ok (.ireturn, 1) := dk_172 (dk_at dksX0_group_1 6 rfl rfl)
abbrev cX0_run : ByteArray := method_23_code
def yX0_run : MethodName := ⟨RX0, "run", "(LCrateDeck;II[J)I"⟩
def dkwX0_run_0 : List UInt8 := [45, 3, 42, 27, 28, 182, 0, 83, 133, 80, 167, 0, 11, 58, 4, 4, 172, 58, 4, 5, 172, 3, 172]
abbrev dktX0_run_0 : List UInt8 := dkwX0_run_0 ++ []
theorem dksX0_run_0 : cX0_run.data.toList.drop 0 = dktX0_run_0 := by decide +kernel
theorem dX0_run_0 : decode cX0_run 0 = .ok (.aload_n 3, 1) := dk_45 (dk_at dksX0_run_0 0 rfl rfl)
theorem dX0_run_1 : decode cX0_run 1 = .ok (.iconst 0, 1) := dk_3 (dk_at dksX0_run_0 1 rfl rfl)
theorem dX0_run_2 : decode cX0_run 2 = .ok (.aload_n 0, 1) := dk_42 (dk_at dksX0_run_0 2 rfl rfl)
theorem dX0_run_3 : decode cX0_run 3 = .ok (.iload_n 1, 1) := dk_27 (dk_at dksX0_run_0 3 rfl rfl)
theorem dX0_run_4 : decode cX0_run 4 = .ok (.iload_n 2, 1) := dk_28 (dk_at dksX0_run_0 4 rfl rfl)
theorem dX0_run_5 : decode cX0_run 5 = .ok (.invokevirtual 83, 3) := dk_182 0 83 (dk_at dksX0_run_0 5 rfl rfl)
theorem dX0_run_8 : decode cX0_run 8 = .ok (.i2l, 1) := dk_133 (dk_at dksX0_run_0 8 rfl rfl)
theorem dX0_run_9 : decode cX0_run 9 = .ok (.lastore, 1) := dk_80 (dk_at dksX0_run_0 9 rfl rfl)
theorem dX0_run_10 : decode cX0_run 10 = .ok (.goto 11, 3) := dk_167 0 11 (dk_at dksX0_run_0 10 rfl rfl)
theorem dX0_run_13 : decode cX0_run 13 = .ok (.astore 4, 2) := dk_58 4 (dk_at dksX0_run_0 13 rfl rfl)
theorem dX0_run_15 : decode cX0_run 15 = .ok (.iconst 1, 1) := dk_4 (dk_at dksX0_run_0 15 rfl rfl)
theorem dX0_run_16 : decode cX0_run 16 = .ok (.ireturn, 1) := dk_172 (dk_at dksX0_run_0 16 rfl rfl)
theorem dX0_run_17 : decode cX0_run 17 = .ok (.astore 4, 2) := dk_58 4 (dk_at dksX0_run_0 17 rfl rfl)
theorem dX0_run_19 : decode cX0_run 19 = .ok (.iconst 2, 1) := dk_5 (dk_at dksX0_run_0 19 rfl rfl)
theorem dX0_run_20 : decode cX0_run 20 = .ok (.ireturn, 1) := dk_172 (dk_at dksX0_run_0 20 rfl rfl)
theorem dX0_run_21 : decode cX0_run 21 = .ok (.iconst 0, 1) := dk_3 (dk_at dksX0_run_0 21 rfl rfl)
theorem dX0_run_22 : decode cX0_run 22 = .ok (.ireturn, 1) := dk_172 (dk_at dksX0_run_0 22 rfl rfl)
abbrev cX0_give : ByteArray := method_24_code
def yX0_give : MethodName := ⟨RX0, "give", "(LCrateDeck;II[J)I"⟩
def dkwX0_give_0 : List UInt8 := [45, 3, 42, 27, 28, 182, 0, 86, 133, 80, 167, 0, 11, 58, 4, 4, 172, 58, 4, 5, 172, 3, 172]
abbrev dktX0_give_0 : List UInt8 := dkwX0_give_0 ++ []
theorem dksX0_give_0 : cX0_give.data.toList.drop 0 = dktX0_give_0 := by decide +kernel
theorem dX0_give_0 : decode cX0_give 0 = .ok (.aload_n 3, 1) := dk_45 (dk_at dksX0_give_0 0 rfl rfl)
theorem dX0_give_1 : decode cX0_give 1 = .ok (.iconst 0, 1) := dk_3 (dk_at dksX0_give_0 1 rfl rfl)
theorem dX0_give_2 : decode cX0_give 2 = .ok (.aload_n 0, 1) := dk_42 (dk_at dksX0_give_0 2 rfl rfl)
theorem dX0_give_3 : decode cX0_give 3 = .ok (.iload_n 1, 1) := dk_27 (dk_at dksX0_give_0 3 rfl rfl)
theorem dX0_give_4 : decode cX0_give 4 = .ok (.iload_n 2, 1) := dk_28 (dk_at dksX0_give_0 4 rfl rfl)
theorem dX0_give_5 : decode cX0_give 5 = .ok (.invokevirtual 86, 3) := dk_182 0 86 (dk_at dksX0_give_0 5 rfl rfl)
theorem dX0_give_8 : decode cX0_give 8 = .ok (.i2l, 1) := dk_133 (dk_at dksX0_give_0 8 rfl rfl)
theorem dX0_give_9 : decode cX0_give 9 = .ok (.lastore, 1) := dk_80 (dk_at dksX0_give_0 9 rfl rfl)
theorem dX0_give_10 : decode cX0_give 10 = .ok (.goto 11, 3) := dk_167 0 11 (dk_at dksX0_give_0 10 rfl rfl)
theorem dX0_give_13 : decode cX0_give 13 = .ok (.astore 4, 2) := dk_58 4 (dk_at dksX0_give_0 13 rfl rfl)
theorem dX0_give_15 : decode cX0_give 15 = .ok (.iconst 1, 1) := dk_4 (dk_at dksX0_give_0 15 rfl rfl)
theorem dX0_give_16 : decode cX0_give 16 = .ok (.ireturn, 1) := dk_172 (dk_at dksX0_give_0 16 rfl rfl)
theorem dX0_give_17 : decode cX0_give 17 = .ok (.astore 4, 2) := dk_58 4 (dk_at dksX0_give_0 17 rfl rfl)
theorem dX0_give_19 : decode cX0_give 19 = .ok (.iconst 2, 1) := dk_5 (dk_at dksX0_give_0 19 rfl rfl)
theorem dX0_give_20 : decode cX0_give 20 = .ok (.ireturn, 1) := dk_172 (dk_at dksX0_give_0 20 rfl rfl)
theorem dX0_give_21 : decode cX0_give 21 = .ok (.iconst 0, 1) := dk_3 (dk_at dksX0_give_0 21 rfl rfl)
theorem dX0_give_22 : decode cX0_give 22 = .ok (.ireturn, 1) := dk_172 (dk_at dksX0_give_0 22 rfl rfl)
abbrev cX0_process : ByteArray := method_25_code
def yX0_process : MethodName := ⟨RX0, "process", "(LCrateDeck;II[J)I"⟩
def dkwX0_process_0 : List UInt8 := [45, 3, 42, 27, 28, 182, 0, 89, 133, 80, 167, 0, 11, 58, 4, 4, 172, 58, 4, 5, 172, 3, 172]
abbrev dktX0_process_0 : List UInt8 := dkwX0_process_0 ++ []
theorem dksX0_process_0 : cX0_process.data.toList.drop 0 = dktX0_process_0 := by decide +kernel
theorem dX0_process_0 : decode cX0_process 0 = .ok (.aload_n 3, 1) := dk_45 (dk_at dksX0_process_0 0 rfl rfl)
theorem dX0_process_1 : decode cX0_process 1 = .ok (.iconst 0, 1) := dk_3 (dk_at dksX0_process_0 1 rfl rfl)
theorem dX0_process_2 : decode cX0_process 2 = .ok (.aload_n 0, 1) := dk_42 (dk_at dksX0_process_0 2 rfl rfl)
theorem dX0_process_3 : decode cX0_process 3 = .ok (.iload_n 1, 1) := dk_27 (dk_at dksX0_process_0 3 rfl rfl)
theorem dX0_process_4 : decode cX0_process 4 = .ok (.iload_n 2, 1) := dk_28 (dk_at dksX0_process_0 4 rfl rfl)
theorem dX0_process_5 : decode cX0_process 5 = .ok (.invokevirtual 89, 3) := dk_182 0 89 (dk_at dksX0_process_0 5 rfl rfl)
theorem dX0_process_8 : decode cX0_process 8 = .ok (.i2l, 1) := dk_133 (dk_at dksX0_process_0 8 rfl rfl)
theorem dX0_process_9 : decode cX0_process 9 = .ok (.lastore, 1) := dk_80 (dk_at dksX0_process_0 9 rfl rfl)
theorem dX0_process_10 : decode cX0_process 10 = .ok (.goto 11, 3) := dk_167 0 11 (dk_at dksX0_process_0 10 rfl rfl)
theorem dX0_process_13 : decode cX0_process 13 = .ok (.astore 4, 2) := dk_58 4 (dk_at dksX0_process_0 13 rfl rfl)
theorem dX0_process_15 : decode cX0_process 15 = .ok (.iconst 1, 1) := dk_4 (dk_at dksX0_process_0 15 rfl rfl)
theorem dX0_process_16 : decode cX0_process 16 = .ok (.ireturn, 1) := dk_172 (dk_at dksX0_process_0 16 rfl rfl)
theorem dX0_process_17 : decode cX0_process 17 = .ok (.astore 4, 2) := dk_58 4 (dk_at dksX0_process_0 17 rfl rfl)
theorem dX0_process_19 : decode cX0_process 19 = .ok (.iconst 2, 1) := dk_5 (dk_at dksX0_process_0 19 rfl rfl)
theorem dX0_process_20 : decode cX0_process 20 = .ok (.ireturn, 1) := dk_172 (dk_at dksX0_process_0 20 rfl rfl)
theorem dX0_process_21 : decode cX0_process 21 = .ok (.iconst 0, 1) := dk_3 (dk_at dksX0_process_0 21 rfl rfl)
theorem dX0_process_22 : decode cX0_process 22 = .ok (.ireturn, 1) := dk_172 (dk_at dksX0_process_0 22 rfl rfl)
abbrev cX0_groupHas : ByteArray := method_26_code
def yX0_groupHas : MethodName := ⟨RX0, "groupHas", "(LCrateDeck;II[J)I"⟩
def dkwX0_groupHas_0 : List UInt8 := [45, 3, 42, 27, 28, 182, 0, 92, 133, 80, 167, 0, 11, 58, 4, 4, 172, 58, 4, 5, 172, 3, 172]
abbrev dktX0_groupHas_0 : List UInt8 := dkwX0_groupHas_0 ++ []
theorem dksX0_groupHas_0 : cX0_groupHas.data.toList.drop 0 = dktX0_groupHas_0 := by decide +kernel
theorem dX0_groupHas_0 : decode cX0_groupHas 0 = .ok (.aload_n 3, 1) := dk_45 (dk_at dksX0_groupHas_0 0 rfl rfl)
theorem dX0_groupHas_1 : decode cX0_groupHas 1 = .ok (.iconst 0, 1) := dk_3 (dk_at dksX0_groupHas_0 1 rfl rfl)
theorem dX0_groupHas_2 : decode cX0_groupHas 2 = .ok (.aload_n 0, 1) := dk_42 (dk_at dksX0_groupHas_0 2 rfl rfl)
theorem dX0_groupHas_3 : decode cX0_groupHas 3 = .ok (.iload_n 1, 1) := dk_27 (dk_at dksX0_groupHas_0 3 rfl rfl)
theorem dX0_groupHas_4 : decode cX0_groupHas 4 = .ok (.iload_n 2, 1) := dk_28 (dk_at dksX0_groupHas_0 4 rfl rfl)
theorem dX0_groupHas_5 : decode cX0_groupHas 5 = .ok (.invokevirtual 92, 3) := dk_182 0 92 (dk_at dksX0_groupHas_0 5 rfl rfl)
theorem dX0_groupHas_8 : decode cX0_groupHas 8 = .ok (.i2l, 1) := dk_133 (dk_at dksX0_groupHas_0 8 rfl rfl)
theorem dX0_groupHas_9 : decode cX0_groupHas 9 = .ok (.lastore, 1) := dk_80 (dk_at dksX0_groupHas_0 9 rfl rfl)
theorem dX0_groupHas_10 : decode cX0_groupHas 10 = .ok (.goto 11, 3) := dk_167 0 11 (dk_at dksX0_groupHas_0 10 rfl rfl)
theorem dX0_groupHas_13 : decode cX0_groupHas 13 = .ok (.astore 4, 2) := dk_58 4 (dk_at dksX0_groupHas_0 13 rfl rfl)
theorem dX0_groupHas_15 : decode cX0_groupHas 15 = .ok (.iconst 1, 1) := dk_4 (dk_at dksX0_groupHas_0 15 rfl rfl)
theorem dX0_groupHas_16 : decode cX0_groupHas 16 = .ok (.ireturn, 1) := dk_172 (dk_at dksX0_groupHas_0 16 rfl rfl)
theorem dX0_groupHas_17 : decode cX0_groupHas 17 = .ok (.astore 4, 2) := dk_58 4 (dk_at dksX0_groupHas_0 17 rfl rfl)
theorem dX0_groupHas_19 : decode cX0_groupHas 19 = .ok (.iconst 2, 1) := dk_5 (dk_at dksX0_groupHas_0 19 rfl rfl)
theorem dX0_groupHas_20 : decode cX0_groupHas 20 = .ok (.ireturn, 1) := dk_172 (dk_at dksX0_groupHas_0 20 rfl rfl)
theorem dX0_groupHas_21 : decode cX0_groupHas 21 = .ok (.iconst 0, 1) := dk_3 (dk_at dksX0_groupHas_0 21 rfl rfl)
theorem dX0_groupHas_22 : decode cX0_groupHas 22 = .ok (.ireturn, 1) := dk_172 (dk_at dksX0_groupHas_0 22 rfl rfl)
abbrev cX0_filter : ByteArray := method_27_code
def yX0_filter : MethodName := ⟨RX0, "filter", "(LCrateDeck;III[J)I"⟩
def dkwX0_filter_1 : List UInt8 := [58, 5, 6, 172, 3, 172]
abbrev dktX0_filter_1 : List UInt8 := dkwX0_filter_1 ++ []
def dkwX0_filter_0 : List UInt8 := [25, 4, 3, 42, 27, 28, 29, 182, 0, 95, 133, 80, 167, 0, 15, 58, 5, 4, 172, 58, 5, 5, 172]
abbrev dktX0_filter_0 : List UInt8 := dkwX0_filter_0 ++ dktX0_filter_1
theorem dksX0_filter_0 : cX0_filter.data.toList.drop 0 = dktX0_filter_0 := by decide +kernel
theorem dksX0_filter_1 : cX0_filter.data.toList.drop 23 = dktX0_filter_1 := dk_seg dksX0_filter_0 23 rfl rfl
theorem dX0_filter_0 : decode cX0_filter 0 = .ok (.aload 4, 2) := dk_25 4 (dk_at dksX0_filter_0 0 rfl rfl)
theorem dX0_filter_2 : decode cX0_filter 2 = .ok (.iconst 0, 1) := dk_3 (dk_at dksX0_filter_0 2 rfl rfl)
theorem dX0_filter_3 : decode cX0_filter 3 = .ok (.aload_n 0, 1) := dk_42 (dk_at dksX0_filter_0 3 rfl rfl)
theorem dX0_filter_4 : decode cX0_filter 4 = .ok (.iload_n 1, 1) := dk_27 (dk_at dksX0_filter_0 4 rfl rfl)
theorem dX0_filter_5 : decode cX0_filter 5 = .ok (.iload_n 2, 1) := dk_28 (dk_at dksX0_filter_0 5 rfl rfl)
theorem dX0_filter_6 : decode cX0_filter 6 = .ok (.iload_n 3, 1) := dk_29 (dk_at dksX0_filter_0 6 rfl rfl)
theorem dX0_filter_7 : decode cX0_filter 7 = .ok (.invokevirtual 95, 3) := dk_182 0 95 (dk_at dksX0_filter_0 7 rfl rfl)
theorem dX0_filter_10 : decode cX0_filter 10 = .ok (.i2l, 1) := dk_133 (dk_at dksX0_filter_0 10 rfl rfl)
theorem dX0_filter_11 : decode cX0_filter 11 = .ok (.lastore, 1) := dk_80 (dk_at dksX0_filter_0 11 rfl rfl)
theorem dX0_filter_12 : decode cX0_filter 12 = .ok (.goto 15, 3) := dk_167 0 15 (dk_at dksX0_filter_0 12 rfl rfl)
theorem dX0_filter_15 : decode cX0_filter 15 = .ok (.astore 5, 2) := dk_58 5 (dk_at dksX0_filter_0 15 rfl rfl)
theorem dX0_filter_17 : decode cX0_filter 17 = .ok (.iconst 1, 1) := dk_4 (dk_at dksX0_filter_0 17 rfl rfl)
theorem dX0_filter_18 : decode cX0_filter 18 = .ok (.ireturn, 1) := dk_172 (dk_at dksX0_filter_0 18 rfl rfl)
theorem dX0_filter_19 : decode cX0_filter 19 = .ok (.astore 5, 2) := dk_58 5 (dk_at dksX0_filter_0 19 rfl rfl)
theorem dX0_filter_21 : decode cX0_filter 21 = .ok (.iconst 2, 1) := dk_5 (dk_at dksX0_filter_0 21 rfl rfl)
theorem dX0_filter_22 : decode cX0_filter 22 = .ok (.ireturn, 1) := dk_172 (dk_at dksX0_filter_0 22 rfl rfl)
theorem dX0_filter_23 : decode cX0_filter 23 = .ok (.astore 5, 2) := dk_58 5 (dk_at dksX0_filter_1 0 rfl rfl)
theorem dX0_filter_25 : decode cX0_filter 25 = .ok (.iconst 3, 1) := dk_6 (dk_at dksX0_filter_1 2 rfl rfl)
theorem dX0_filter_26 : decode cX0_filter 26 = .ok (.ireturn, 1) := dk_172 (dk_at dksX0_filter_1 3 rfl rfl)
theorem dX0_filter_27 : decode cX0_filter 27 = .ok (.iconst 0, 1) := dk_3 (dk_at dksX0_filter_1 4 rfl rfl)
theorem dX0_filter_28 : decode cX0_filter 28 = .ok (.ireturn, 1) := dk_172 (dk_at dksX0_filter_1 5 rfl rfl)
abbrev cX0_call : ByteArray := method_28_code
def yX0_call : MethodName := ⟨RX0, "call", "(LCrateDeck;II[J)I"⟩
def dkwX0_call_0 : List UInt8 := [45, 3, 42, 27, 28, 182, 0, 98, 133, 80, 167, 0, 11, 58, 4, 4, 172, 58, 4, 5, 172, 3, 172]
abbrev dktX0_call_0 : List UInt8 := dkwX0_call_0 ++ []
theorem dksX0_call_0 : cX0_call.data.toList.drop 0 = dktX0_call_0 := by decide +kernel
theorem dX0_call_0 : decode cX0_call 0 = .ok (.aload_n 3, 1) := dk_45 (dk_at dksX0_call_0 0 rfl rfl)
theorem dX0_call_1 : decode cX0_call 1 = .ok (.iconst 0, 1) := dk_3 (dk_at dksX0_call_0 1 rfl rfl)
theorem dX0_call_2 : decode cX0_call 2 = .ok (.aload_n 0, 1) := dk_42 (dk_at dksX0_call_0 2 rfl rfl)
theorem dX0_call_3 : decode cX0_call 3 = .ok (.iload_n 1, 1) := dk_27 (dk_at dksX0_call_0 3 rfl rfl)
theorem dX0_call_4 : decode cX0_call 4 = .ok (.iload_n 2, 1) := dk_28 (dk_at dksX0_call_0 4 rfl rfl)
theorem dX0_call_5 : decode cX0_call 5 = .ok (.invokevirtual 98, 3) := dk_182 0 98 (dk_at dksX0_call_0 5 rfl rfl)
theorem dX0_call_8 : decode cX0_call 8 = .ok (.i2l, 1) := dk_133 (dk_at dksX0_call_0 8 rfl rfl)
theorem dX0_call_9 : decode cX0_call 9 = .ok (.lastore, 1) := dk_80 (dk_at dksX0_call_0 9 rfl rfl)
theorem dX0_call_10 : decode cX0_call 10 = .ok (.goto 11, 3) := dk_167 0 11 (dk_at dksX0_call_0 10 rfl rfl)
theorem dX0_call_13 : decode cX0_call 13 = .ok (.astore 4, 2) := dk_58 4 (dk_at dksX0_call_0 13 rfl rfl)
theorem dX0_call_15 : decode cX0_call 15 = .ok (.iconst 1, 1) := dk_4 (dk_at dksX0_call_0 15 rfl rfl)
theorem dX0_call_16 : decode cX0_call 16 = .ok (.ireturn, 1) := dk_172 (dk_at dksX0_call_0 16 rfl rfl)
theorem dX0_call_17 : decode cX0_call 17 = .ok (.astore 4, 2) := dk_58 4 (dk_at dksX0_call_0 17 rfl rfl)
theorem dX0_call_19 : decode cX0_call 19 = .ok (.iconst 2, 1) := dk_5 (dk_at dksX0_call_0 19 rfl rfl)
theorem dX0_call_20 : decode cX0_call 20 = .ok (.ireturn, 1) := dk_172 (dk_at dksX0_call_0 20 rfl rfl)
theorem dX0_call_21 : decode cX0_call 21 = .ok (.iconst 0, 1) := dk_3 (dk_at dksX0_call_0 21 rfl rfl)
theorem dX0_call_22 : decode cX0_call 22 = .ok (.ireturn, 1) := dk_172 (dk_at dksX0_call_0 22 rfl rfl)
abbrev cX0_connect : ByteArray := method_29_code
def yX0_connect : MethodName := ⟨RX0, "connect", "(LCrateDeck;II[J)I"⟩
def dkwX0_connect_1 : List UInt8 := [172, 3, 172]
abbrev dktX0_connect_1 : List UInt8 := dkwX0_connect_1 ++ []
def dkwX0_connect_0 : List UInt8 := [45, 3, 42, 27, 28, 182, 0, 101, 133, 80, 167, 0, 15, 58, 4, 4, 172, 58, 4, 5, 172, 58, 4, 6]
abbrev dktX0_connect_0 : List UInt8 := dkwX0_connect_0 ++ dktX0_connect_1
theorem dksX0_connect_0 : cX0_connect.data.toList.drop 0 = dktX0_connect_0 := by decide +kernel
theorem dksX0_connect_1 : cX0_connect.data.toList.drop 24 = dktX0_connect_1 := dk_seg dksX0_connect_0 24 rfl rfl
theorem dX0_connect_0 : decode cX0_connect 0 = .ok (.aload_n 3, 1) := dk_45 (dk_at dksX0_connect_0 0 rfl rfl)
theorem dX0_connect_1 : decode cX0_connect 1 = .ok (.iconst 0, 1) := dk_3 (dk_at dksX0_connect_0 1 rfl rfl)
theorem dX0_connect_2 : decode cX0_connect 2 = .ok (.aload_n 0, 1) := dk_42 (dk_at dksX0_connect_0 2 rfl rfl)
theorem dX0_connect_3 : decode cX0_connect 3 = .ok (.iload_n 1, 1) := dk_27 (dk_at dksX0_connect_0 3 rfl rfl)
theorem dX0_connect_4 : decode cX0_connect 4 = .ok (.iload_n 2, 1) := dk_28 (dk_at dksX0_connect_0 4 rfl rfl)
theorem dX0_connect_5 : decode cX0_connect 5 = .ok (.invokevirtual 101, 3) := dk_182 0 101 (dk_at dksX0_connect_0 5 rfl rfl)
theorem dX0_connect_8 : decode cX0_connect 8 = .ok (.i2l, 1) := dk_133 (dk_at dksX0_connect_0 8 rfl rfl)
theorem dX0_connect_9 : decode cX0_connect 9 = .ok (.lastore, 1) := dk_80 (dk_at dksX0_connect_0 9 rfl rfl)
theorem dX0_connect_10 : decode cX0_connect 10 = .ok (.goto 15, 3) := dk_167 0 15 (dk_at dksX0_connect_0 10 rfl rfl)
theorem dX0_connect_13 : decode cX0_connect 13 = .ok (.astore 4, 2) := dk_58 4 (dk_at dksX0_connect_0 13 rfl rfl)
theorem dX0_connect_15 : decode cX0_connect 15 = .ok (.iconst 1, 1) := dk_4 (dk_at dksX0_connect_0 15 rfl rfl)
theorem dX0_connect_16 : decode cX0_connect 16 = .ok (.ireturn, 1) := dk_172 (dk_at dksX0_connect_0 16 rfl rfl)
theorem dX0_connect_17 : decode cX0_connect 17 = .ok (.astore 4, 2) := dk_58 4 (dk_at dksX0_connect_0 17 rfl rfl)
theorem dX0_connect_19 : decode cX0_connect 19 = .ok (.iconst 2, 1) := dk_5 (dk_at dksX0_connect_0 19 rfl rfl)
theorem dX0_connect_20 : decode cX0_connect 20 = .ok (.ireturn, 1) := dk_172 (dk_at dksX0_connect_0 20 rfl rfl)
theorem dX0_connect_21 : decode cX0_connect 21 = .ok (.astore 4, 2) := dk_58 4 (dk_at dksX0_connect_0 21 rfl rfl)
theorem dX0_connect_23 : decode cX0_connect 23 = .ok (.iconst 3, 1) := dk_6 (dk_at dksX0_connect_0 23 rfl rfl)
theorem dX0_connect_24 : decode cX0_connect 24 = .ok (.ireturn, 1) := dk_172 (dk_at dksX0_connect_1 0 rfl rfl)
theorem dX0_connect_25 : decode cX0_connect 25 = .ok (.iconst 0, 1) := dk_3 (dk_at dksX0_connect_1 1 rfl rfl)
theorem dX0_connect_26 : decode cX0_connect 26 = .ok (.ireturn, 1) := dk_172 (dk_at dksX0_connect_1 2 rfl rfl)
abbrev cX0_disconnect : ByteArray := method_30_code
def yX0_disconnect : MethodName := ⟨RX0, "disconnect", "(LCrateDeck;II[J)I"⟩
def dkwX0_disconnect_1 : List UInt8 := [172, 3, 172]
abbrev dktX0_disconnect_1 : List UInt8 := dkwX0_disconnect_1 ++ []
def dkwX0_disconnect_0 : List UInt8 := [45, 3, 42, 27, 28, 182, 0, 104, 133, 80, 167, 0, 15, 58, 4, 4, 172, 58, 4, 5, 172, 58, 4, 6]
abbrev dktX0_disconnect_0 : List UInt8 := dkwX0_disconnect_0 ++ dktX0_disconnect_1
theorem dksX0_disconnect_0 : cX0_disconnect.data.toList.drop 0 = dktX0_disconnect_0 := by decide +kernel
theorem dksX0_disconnect_1 : cX0_disconnect.data.toList.drop 24 = dktX0_disconnect_1 := dk_seg dksX0_disconnect_0 24 rfl rfl
theorem dX0_disconnect_0 : decode cX0_disconnect 0 = .ok (.aload_n 3, 1) := dk_45 (dk_at dksX0_disconnect_0 0 rfl rfl)
theorem dX0_disconnect_1 : decode cX0_disconnect 1 = .ok (.iconst 0, 1) := dk_3 (dk_at dksX0_disconnect_0 1 rfl rfl)
theorem dX0_disconnect_2 : decode cX0_disconnect 2 = .ok (.aload_n 0, 1) := dk_42 (dk_at dksX0_disconnect_0 2 rfl rfl)
theorem dX0_disconnect_3 : decode cX0_disconnect 3 = .ok (.iload_n 1, 1) := dk_27 (dk_at dksX0_disconnect_0 3 rfl rfl)
theorem dX0_disconnect_4 : decode cX0_disconnect 4 = .ok (.iload_n 2, 1) := dk_28 (dk_at dksX0_disconnect_0 4 rfl rfl)
theorem dX0_disconnect_5 : decode cX0_disconnect 5 = .ok (.invokevirtual 104, 3) := dk_182 0 104 (dk_at dksX0_disconnect_0 5 rfl rfl)
theorem dX0_disconnect_8 : decode cX0_disconnect 8 = .ok (.i2l, 1) := dk_133 (dk_at dksX0_disconnect_0 8 rfl rfl)
theorem dX0_disconnect_9 : decode cX0_disconnect 9 = .ok (.lastore, 1) := dk_80 (dk_at dksX0_disconnect_0 9 rfl rfl)
theorem dX0_disconnect_10 : decode cX0_disconnect 10 = .ok (.goto 15, 3) := dk_167 0 15 (dk_at dksX0_disconnect_0 10 rfl rfl)
theorem dX0_disconnect_13 : decode cX0_disconnect 13 = .ok (.astore 4, 2) := dk_58 4 (dk_at dksX0_disconnect_0 13 rfl rfl)
theorem dX0_disconnect_15 : decode cX0_disconnect 15 = .ok (.iconst 1, 1) := dk_4 (dk_at dksX0_disconnect_0 15 rfl rfl)
theorem dX0_disconnect_16 : decode cX0_disconnect 16 = .ok (.ireturn, 1) := dk_172 (dk_at dksX0_disconnect_0 16 rfl rfl)
theorem dX0_disconnect_17 : decode cX0_disconnect 17 = .ok (.astore 4, 2) := dk_58 4 (dk_at dksX0_disconnect_0 17 rfl rfl)
theorem dX0_disconnect_19 : decode cX0_disconnect 19 = .ok (.iconst 2, 1) := dk_5 (dk_at dksX0_disconnect_0 19 rfl rfl)
theorem dX0_disconnect_20 : decode cX0_disconnect 20 = .ok (.ireturn, 1) := dk_172 (dk_at dksX0_disconnect_0 20 rfl rfl)
theorem dX0_disconnect_21 : decode cX0_disconnect 21 = .ok (.astore 4, 2) := dk_58 4 (dk_at dksX0_disconnect_0 21 rfl rfl)
theorem dX0_disconnect_23 : decode cX0_disconnect 23 = .ok (.iconst 3, 1) := dk_6 (dk_at dksX0_disconnect_0 23 rfl rfl)
theorem dX0_disconnect_24 : decode cX0_disconnect 24 = .ok (.ireturn, 1) := dk_172 (dk_at dksX0_disconnect_1 0 rfl rfl)
theorem dX0_disconnect_25 : decode cX0_disconnect 25 = .ok (.iconst 0, 1) := dk_3 (dk_at dksX0_disconnect_1 1 rfl rfl)
theorem dX0_disconnect_26 : decode cX0_disconnect 26 = .ok (.ireturn, 1) := dk_172 (dk_at dksX0_disconnect_1 2 rfl rfl)
abbrev cX0_find : ByteArray := method_31_code
def yX0_find : MethodName := ⟨RX0, "find", "(LCrateDeck;II[J)I"⟩
def dkwX0_find_0 : List UInt8 := [45, 3, 42, 27, 28, 182, 0, 107, 133, 80, 167, 0, 11, 58, 4, 4, 172, 58, 4, 5, 172, 3, 172]
abbrev dktX0_find_0 : List UInt8 := dkwX0_find_0 ++ []
theorem dksX0_find_0 : cX0_find.data.toList.drop 0 = dktX0_find_0 := by decide +kernel
theorem dX0_find_0 : decode cX0_find 0 = .ok (.aload_n 3, 1) := dk_45 (dk_at dksX0_find_0 0 rfl rfl)
theorem dX0_find_1 : decode cX0_find 1 = .ok (.iconst 0, 1) := dk_3 (dk_at dksX0_find_0 1 rfl rfl)
theorem dX0_find_2 : decode cX0_find 2 = .ok (.aload_n 0, 1) := dk_42 (dk_at dksX0_find_0 2 rfl rfl)
theorem dX0_find_3 : decode cX0_find 3 = .ok (.iload_n 1, 1) := dk_27 (dk_at dksX0_find_0 3 rfl rfl)
theorem dX0_find_4 : decode cX0_find 4 = .ok (.iload_n 2, 1) := dk_28 (dk_at dksX0_find_0 4 rfl rfl)
theorem dX0_find_5 : decode cX0_find 5 = .ok (.invokevirtual 107, 3) := dk_182 0 107 (dk_at dksX0_find_0 5 rfl rfl)
theorem dX0_find_8 : decode cX0_find 8 = .ok (.i2l, 1) := dk_133 (dk_at dksX0_find_0 8 rfl rfl)
theorem dX0_find_9 : decode cX0_find 9 = .ok (.lastore, 1) := dk_80 (dk_at dksX0_find_0 9 rfl rfl)
theorem dX0_find_10 : decode cX0_find 10 = .ok (.goto 11, 3) := dk_167 0 11 (dk_at dksX0_find_0 10 rfl rfl)
theorem dX0_find_13 : decode cX0_find 13 = .ok (.astore 4, 2) := dk_58 4 (dk_at dksX0_find_0 13 rfl rfl)
theorem dX0_find_15 : decode cX0_find 15 = .ok (.iconst 1, 1) := dk_4 (dk_at dksX0_find_0 15 rfl rfl)
theorem dX0_find_16 : decode cX0_find 16 = .ok (.ireturn, 1) := dk_172 (dk_at dksX0_find_0 16 rfl rfl)
theorem dX0_find_17 : decode cX0_find 17 = .ok (.astore 4, 2) := dk_58 4 (dk_at dksX0_find_0 17 rfl rfl)
theorem dX0_find_19 : decode cX0_find 19 = .ok (.iconst 2, 1) := dk_5 (dk_at dksX0_find_0 19 rfl rfl)
theorem dX0_find_20 : decode cX0_find 20 = .ok (.ireturn, 1) := dk_172 (dk_at dksX0_find_0 20 rfl rfl)
theorem dX0_find_21 : decode cX0_find 21 = .ok (.iconst 0, 1) := dk_3 (dk_at dksX0_find_0 21 rfl rfl)
theorem dX0_find_22 : decode cX0_find 22 = .ok (.ireturn, 1) := dk_172 (dk_at dksX0_find_0 22 rfl rfl)
abbrev cX0_forward : ByteArray := method_32_code
def yX0_forward : MethodName := ⟨RX0, "forward", "(LCrateDeck;III)I"⟩
def dkwX0_forward_0 : List UInt8 := [42, 27, 28, 29, 182, 0, 110, 167, 0, 15, 58, 4, 4, 172, 58, 4, 5, 172, 58, 4, 6, 172, 3, 172]
abbrev dktX0_forward_0 : List UInt8 := dkwX0_forward_0 ++ []
theorem dksX0_forward_0 : cX0_forward.data.toList.drop 0 = dktX0_forward_0 := by decide +kernel
theorem dX0_forward_0 : decode cX0_forward 0 = .ok (.aload_n 0, 1) := dk_42 (dk_at dksX0_forward_0 0 rfl rfl)
theorem dX0_forward_1 : decode cX0_forward 1 = .ok (.iload_n 1, 1) := dk_27 (dk_at dksX0_forward_0 1 rfl rfl)
theorem dX0_forward_2 : decode cX0_forward 2 = .ok (.iload_n 2, 1) := dk_28 (dk_at dksX0_forward_0 2 rfl rfl)
theorem dX0_forward_3 : decode cX0_forward 3 = .ok (.iload_n 3, 1) := dk_29 (dk_at dksX0_forward_0 3 rfl rfl)
theorem dX0_forward_4 : decode cX0_forward 4 = .ok (.invokevirtual 110, 3) := dk_182 0 110 (dk_at dksX0_forward_0 4 rfl rfl)
theorem dX0_forward_7 : decode cX0_forward 7 = .ok (.goto 15, 3) := dk_167 0 15 (dk_at dksX0_forward_0 7 rfl rfl)
theorem dX0_forward_10 : decode cX0_forward 10 = .ok (.astore 4, 2) := dk_58 4 (dk_at dksX0_forward_0 10 rfl rfl)
theorem dX0_forward_12 : decode cX0_forward 12 = .ok (.iconst 1, 1) := dk_4 (dk_at dksX0_forward_0 12 rfl rfl)
theorem dX0_forward_13 : decode cX0_forward 13 = .ok (.ireturn, 1) := dk_172 (dk_at dksX0_forward_0 13 rfl rfl)
theorem dX0_forward_14 : decode cX0_forward 14 = .ok (.astore 4, 2) := dk_58 4 (dk_at dksX0_forward_0 14 rfl rfl)
theorem dX0_forward_16 : decode cX0_forward 16 = .ok (.iconst 2, 1) := dk_5 (dk_at dksX0_forward_0 16 rfl rfl)
theorem dX0_forward_17 : decode cX0_forward 17 = .ok (.ireturn, 1) := dk_172 (dk_at dksX0_forward_0 17 rfl rfl)
theorem dX0_forward_18 : decode cX0_forward 18 = .ok (.astore 4, 2) := dk_58 4 (dk_at dksX0_forward_0 18 rfl rfl)
theorem dX0_forward_20 : decode cX0_forward 20 = .ok (.iconst 3, 1) := dk_6 (dk_at dksX0_forward_0 20 rfl rfl)
theorem dX0_forward_21 : decode cX0_forward 21 = .ok (.ireturn, 1) := dk_172 (dk_at dksX0_forward_0 21 rfl rfl)
theorem dX0_forward_22 : decode cX0_forward 22 = .ok (.iconst 0, 1) := dk_3 (dk_at dksX0_forward_0 22 rfl rfl)
theorem dX0_forward_23 : decode cX0_forward 23 = .ok (.ireturn, 1) := dk_172 (dk_at dksX0_forward_0 23 rfl rfl)
abbrev cX0_leads : ByteArray := method_33_code
def yX0_leads : MethodName := ⟨RX0, "leads", "(LCrateDeck;I[J)I"⟩
def dkwX0_leads_0 : List UInt8 := [44, 3, 42, 27, 182, 0, 113, 133, 80, 167, 0, 6, 78, 4, 172, 3, 172]
abbrev dktX0_leads_0 : List UInt8 := dkwX0_leads_0 ++ []
theorem dksX0_leads_0 : cX0_leads.data.toList.drop 0 = dktX0_leads_0 := by decide +kernel
theorem dX0_leads_0 : decode cX0_leads 0 = .ok (.aload_n 2, 1) := dk_44 (dk_at dksX0_leads_0 0 rfl rfl)
theorem dX0_leads_1 : decode cX0_leads 1 = .ok (.iconst 0, 1) := dk_3 (dk_at dksX0_leads_0 1 rfl rfl)
theorem dX0_leads_2 : decode cX0_leads 2 = .ok (.aload_n 0, 1) := dk_42 (dk_at dksX0_leads_0 2 rfl rfl)
theorem dX0_leads_3 : decode cX0_leads 3 = .ok (.iload_n 1, 1) := dk_27 (dk_at dksX0_leads_0 3 rfl rfl)
theorem dX0_leads_4 : decode cX0_leads 4 = .ok (.invokevirtual 113, 3) := dk_182 0 113 (dk_at dksX0_leads_0 4 rfl rfl)
theorem dX0_leads_7 : decode cX0_leads 7 = .ok (.i2l, 1) := dk_133 (dk_at dksX0_leads_0 7 rfl rfl)
theorem dX0_leads_8 : decode cX0_leads 8 = .ok (.lastore, 1) := dk_80 (dk_at dksX0_leads_0 8 rfl rfl)
theorem dX0_leads_9 : decode cX0_leads 9 = .ok (.goto 6, 3) := dk_167 0 6 (dk_at dksX0_leads_0 9 rfl rfl)
theorem dX0_leads_12 : decode cX0_leads 12 = .ok (.astore_n 3, 1) := dk_78 (dk_at dksX0_leads_0 12 rfl rfl)
theorem dX0_leads_13 : decode cX0_leads 13 = .ok (.iconst 1, 1) := dk_4 (dk_at dksX0_leads_0 13 rfl rfl)
theorem dX0_leads_14 : decode cX0_leads 14 = .ok (.ireturn, 1) := dk_172 (dk_at dksX0_leads_0 14 rfl rfl)
theorem dX0_leads_15 : decode cX0_leads 15 = .ok (.iconst 0, 1) := dk_3 (dk_at dksX0_leads_0 15 rfl rfl)
theorem dX0_leads_16 : decode cX0_leads 16 = .ok (.ireturn, 1) := dk_172 (dk_at dksX0_leads_0 16 rfl rfl)
abbrev cX0_build : ByteArray := method_34_code
def yX0_build : MethodName := ⟨RX0, "build", "(LCrateDeck;IIII[J)I"⟩
def dkwX0_build_1 : List UInt8 := [172, 58, 6, 6, 172, 3, 172]
abbrev dktX0_build_1 : List UInt8 := dkwX0_build_1 ++ []
def dkwX0_build_0 : List UInt8 := [25, 5, 3, 42, 27, 28, 29, 21, 4, 182, 0, 116, 133, 80, 167, 0, 15, 58, 6, 4, 172, 58, 6, 5]
abbrev dktX0_build_0 : List UInt8 := dkwX0_build_0 ++ dktX0_build_1
theorem dksX0_build_0 : cX0_build.data.toList.drop 0 = dktX0_build_0 := by decide +kernel
theorem dksX0_build_1 : cX0_build.data.toList.drop 24 = dktX0_build_1 := dk_seg dksX0_build_0 24 rfl rfl
theorem dX0_build_0 : decode cX0_build 0 = .ok (.aload 5, 2) := dk_25 5 (dk_at dksX0_build_0 0 rfl rfl)
theorem dX0_build_2 : decode cX0_build 2 = .ok (.iconst 0, 1) := dk_3 (dk_at dksX0_build_0 2 rfl rfl)
theorem dX0_build_3 : decode cX0_build 3 = .ok (.aload_n 0, 1) := dk_42 (dk_at dksX0_build_0 3 rfl rfl)
theorem dX0_build_4 : decode cX0_build 4 = .ok (.iload_n 1, 1) := dk_27 (dk_at dksX0_build_0 4 rfl rfl)
theorem dX0_build_5 : decode cX0_build 5 = .ok (.iload_n 2, 1) := dk_28 (dk_at dksX0_build_0 5 rfl rfl)
theorem dX0_build_6 : decode cX0_build 6 = .ok (.iload_n 3, 1) := dk_29 (dk_at dksX0_build_0 6 rfl rfl)
theorem dX0_build_7 : decode cX0_build 7 = .ok (.iload 4, 2) := dk_21 4 (dk_at dksX0_build_0 7 rfl rfl)
theorem dX0_build_9 : decode cX0_build 9 = .ok (.invokevirtual 116, 3) := dk_182 0 116 (dk_at dksX0_build_0 9 rfl rfl)
theorem dX0_build_12 : decode cX0_build 12 = .ok (.i2l, 1) := dk_133 (dk_at dksX0_build_0 12 rfl rfl)
theorem dX0_build_13 : decode cX0_build 13 = .ok (.lastore, 1) := dk_80 (dk_at dksX0_build_0 13 rfl rfl)
theorem dX0_build_14 : decode cX0_build 14 = .ok (.goto 15, 3) := dk_167 0 15 (dk_at dksX0_build_0 14 rfl rfl)
theorem dX0_build_17 : decode cX0_build 17 = .ok (.astore 6, 2) := dk_58 6 (dk_at dksX0_build_0 17 rfl rfl)
theorem dX0_build_19 : decode cX0_build 19 = .ok (.iconst 1, 1) := dk_4 (dk_at dksX0_build_0 19 rfl rfl)
theorem dX0_build_20 : decode cX0_build 20 = .ok (.ireturn, 1) := dk_172 (dk_at dksX0_build_0 20 rfl rfl)
theorem dX0_build_21 : decode cX0_build 21 = .ok (.astore 6, 2) := dk_58 6 (dk_at dksX0_build_0 21 rfl rfl)
theorem dX0_build_23 : decode cX0_build 23 = .ok (.iconst 2, 1) := dk_5 (dk_at dksX0_build_0 23 rfl rfl)
theorem dX0_build_24 : decode cX0_build 24 = .ok (.ireturn, 1) := dk_172 (dk_at dksX0_build_1 0 rfl rfl)
theorem dX0_build_25 : decode cX0_build 25 = .ok (.astore 6, 2) := dk_58 6 (dk_at dksX0_build_1 1 rfl rfl)
theorem dX0_build_27 : decode cX0_build 27 = .ok (.iconst 3, 1) := dk_6 (dk_at dksX0_build_1 3 rfl rfl)
theorem dX0_build_28 : decode cX0_build 28 = .ok (.ireturn, 1) := dk_172 (dk_at dksX0_build_1 4 rfl rfl)
theorem dX0_build_29 : decode cX0_build 29 = .ok (.iconst 0, 1) := dk_3 (dk_at dksX0_build_1 5 rfl rfl)
theorem dX0_build_30 : decode cX0_build 30 = .ok (.ireturn, 1) := dk_172 (dk_at dksX0_build_1 6 rfl rfl)
abbrev cX0_push : ByteArray := method_35_code
def yX0_push : MethodName := ⟨RX0, "push", "(LCrateDeck;I[J)I"⟩
def dkwX0_push_0 : List UInt8 := [44, 3, 42, 27, 182, 0, 119, 133, 80, 167, 0, 9, 78, 4, 172, 78, 5, 172, 3, 172]
abbrev dktX0_push_0 : List UInt8 := dkwX0_push_0 ++ []
theorem dksX0_push_0 : cX0_push.data.toList.drop 0 = dktX0_push_0 := by decide +kernel
theorem dX0_push_0 : decode cX0_push 0 = .ok (.aload_n 2, 1) := dk_44 (dk_at dksX0_push_0 0 rfl rfl)
theorem dX0_push_1 : decode cX0_push 1 = .ok (.iconst 0, 1) := dk_3 (dk_at dksX0_push_0 1 rfl rfl)
theorem dX0_push_2 : decode cX0_push 2 = .ok (.aload_n 0, 1) := dk_42 (dk_at dksX0_push_0 2 rfl rfl)
theorem dX0_push_3 : decode cX0_push 3 = .ok (.iload_n 1, 1) := dk_27 (dk_at dksX0_push_0 3 rfl rfl)
theorem dX0_push_4 : decode cX0_push 4 = .ok (.invokevirtual 119, 3) := dk_182 0 119 (dk_at dksX0_push_0 4 rfl rfl)
theorem dX0_push_7 : decode cX0_push 7 = .ok (.i2l, 1) := dk_133 (dk_at dksX0_push_0 7 rfl rfl)
theorem dX0_push_8 : decode cX0_push 8 = .ok (.lastore, 1) := dk_80 (dk_at dksX0_push_0 8 rfl rfl)
theorem dX0_push_9 : decode cX0_push 9 = .ok (.goto 9, 3) := dk_167 0 9 (dk_at dksX0_push_0 9 rfl rfl)
theorem dX0_push_12 : decode cX0_push 12 = .ok (.astore_n 3, 1) := dk_78 (dk_at dksX0_push_0 12 rfl rfl)
theorem dX0_push_13 : decode cX0_push 13 = .ok (.iconst 1, 1) := dk_4 (dk_at dksX0_push_0 13 rfl rfl)
theorem dX0_push_14 : decode cX0_push 14 = .ok (.ireturn, 1) := dk_172 (dk_at dksX0_push_0 14 rfl rfl)
theorem dX0_push_15 : decode cX0_push 15 = .ok (.astore_n 3, 1) := dk_78 (dk_at dksX0_push_0 15 rfl rfl)
theorem dX0_push_16 : decode cX0_push 16 = .ok (.iconst 2, 1) := dk_5 (dk_at dksX0_push_0 16 rfl rfl)
theorem dX0_push_17 : decode cX0_push 17 = .ok (.ireturn, 1) := dk_172 (dk_at dksX0_push_0 17 rfl rfl)
theorem dX0_push_18 : decode cX0_push 18 = .ok (.iconst 0, 1) := dk_3 (dk_at dksX0_push_0 18 rfl rfl)
theorem dX0_push_19 : decode cX0_push 19 = .ok (.ireturn, 1) := dk_172 (dk_at dksX0_push_0 19 rfl rfl)
abbrev cX0_pull : ByteArray := method_36_code
def yX0_pull : MethodName := ⟨RX0, "pull", "(LCrateDeck;II[J)I"⟩
def dkwX0_pull_1 : List UInt8 := [172, 3, 172]
abbrev dktX0_pull_1 : List UInt8 := dkwX0_pull_1 ++ []
def dkwX0_pull_0 : List UInt8 := [45, 3, 42, 27, 28, 182, 0, 122, 133, 80, 167, 0, 15, 58, 4, 4, 172, 58, 4, 5, 172, 58, 4, 6]
abbrev dktX0_pull_0 : List UInt8 := dkwX0_pull_0 ++ dktX0_pull_1
theorem dksX0_pull_0 : cX0_pull.data.toList.drop 0 = dktX0_pull_0 := by decide +kernel
theorem dksX0_pull_1 : cX0_pull.data.toList.drop 24 = dktX0_pull_1 := dk_seg dksX0_pull_0 24 rfl rfl
theorem dX0_pull_0 : decode cX0_pull 0 = .ok (.aload_n 3, 1) := dk_45 (dk_at dksX0_pull_0 0 rfl rfl)
theorem dX0_pull_1 : decode cX0_pull 1 = .ok (.iconst 0, 1) := dk_3 (dk_at dksX0_pull_0 1 rfl rfl)
theorem dX0_pull_2 : decode cX0_pull 2 = .ok (.aload_n 0, 1) := dk_42 (dk_at dksX0_pull_0 2 rfl rfl)
theorem dX0_pull_3 : decode cX0_pull 3 = .ok (.iload_n 1, 1) := dk_27 (dk_at dksX0_pull_0 3 rfl rfl)
theorem dX0_pull_4 : decode cX0_pull 4 = .ok (.iload_n 2, 1) := dk_28 (dk_at dksX0_pull_0 4 rfl rfl)
theorem dX0_pull_5 : decode cX0_pull 5 = .ok (.invokevirtual 122, 3) := dk_182 0 122 (dk_at dksX0_pull_0 5 rfl rfl)
theorem dX0_pull_8 : decode cX0_pull 8 = .ok (.i2l, 1) := dk_133 (dk_at dksX0_pull_0 8 rfl rfl)
theorem dX0_pull_9 : decode cX0_pull 9 = .ok (.lastore, 1) := dk_80 (dk_at dksX0_pull_0 9 rfl rfl)
theorem dX0_pull_10 : decode cX0_pull 10 = .ok (.goto 15, 3) := dk_167 0 15 (dk_at dksX0_pull_0 10 rfl rfl)
theorem dX0_pull_13 : decode cX0_pull 13 = .ok (.astore 4, 2) := dk_58 4 (dk_at dksX0_pull_0 13 rfl rfl)
theorem dX0_pull_15 : decode cX0_pull 15 = .ok (.iconst 1, 1) := dk_4 (dk_at dksX0_pull_0 15 rfl rfl)
theorem dX0_pull_16 : decode cX0_pull 16 = .ok (.ireturn, 1) := dk_172 (dk_at dksX0_pull_0 16 rfl rfl)
theorem dX0_pull_17 : decode cX0_pull 17 = .ok (.astore 4, 2) := dk_58 4 (dk_at dksX0_pull_0 17 rfl rfl)
theorem dX0_pull_19 : decode cX0_pull 19 = .ok (.iconst 2, 1) := dk_5 (dk_at dksX0_pull_0 19 rfl rfl)
theorem dX0_pull_20 : decode cX0_pull 20 = .ok (.ireturn, 1) := dk_172 (dk_at dksX0_pull_0 20 rfl rfl)
theorem dX0_pull_21 : decode cX0_pull 21 = .ok (.astore 4, 2) := dk_58 4 (dk_at dksX0_pull_0 21 rfl rfl)
theorem dX0_pull_23 : decode cX0_pull 23 = .ok (.iconst 3, 1) := dk_6 (dk_at dksX0_pull_0 23 rfl rfl)
theorem dX0_pull_24 : decode cX0_pull 24 = .ok (.ireturn, 1) := dk_172 (dk_at dksX0_pull_1 0 rfl rfl)
theorem dX0_pull_25 : decode cX0_pull 25 = .ok (.iconst 0, 1) := dk_3 (dk_at dksX0_pull_1 1 rfl rfl)
theorem dX0_pull_26 : decode cX0_pull 26 = .ok (.ireturn, 1) := dk_172 (dk_at dksX0_pull_1 2 rfl rfl)
abbrev cX0_forget : ByteArray := method_37_code
def yX0_forget : MethodName := ⟨RX0, "forget", "(LCrateDeck;I[J)I"⟩
def dkwX0_forget_0 : List UInt8 := [44, 3, 42, 27, 182, 0, 125, 153, 0, 7, 10, 167, 0, 4, 9, 80, 167, 0, 6, 78, 4, 172, 3, 172]
abbrev dktX0_forget_0 : List UInt8 := dkwX0_forget_0 ++ []
theorem dksX0_forget_0 : cX0_forget.data.toList.drop 0 = dktX0_forget_0 := by decide +kernel
theorem dX0_forget_0 : decode cX0_forget 0 = .ok (.aload_n 2, 1) := dk_44 (dk_at dksX0_forget_0 0 rfl rfl)
theorem dX0_forget_1 : decode cX0_forget 1 = .ok (.iconst 0, 1) := dk_3 (dk_at dksX0_forget_0 1 rfl rfl)
theorem dX0_forget_2 : decode cX0_forget 2 = .ok (.aload_n 0, 1) := dk_42 (dk_at dksX0_forget_0 2 rfl rfl)
theorem dX0_forget_3 : decode cX0_forget 3 = .ok (.iload_n 1, 1) := dk_27 (dk_at dksX0_forget_0 3 rfl rfl)
theorem dX0_forget_4 : decode cX0_forget 4 = .ok (.invokevirtual 125, 3) := dk_182 0 125 (dk_at dksX0_forget_0 4 rfl rfl)
theorem dX0_forget_7 : decode cX0_forget 7 = .ok (.ifCond .eq 7, 3) := dk_153 0 7 (dk_at dksX0_forget_0 7 rfl rfl)
theorem dX0_forget_10 : decode cX0_forget 10 = .ok (.lconst 1, 1) := dk_10 (dk_at dksX0_forget_0 10 rfl rfl)
theorem dX0_forget_11 : decode cX0_forget 11 = .ok (.goto 4, 3) := dk_167 0 4 (dk_at dksX0_forget_0 11 rfl rfl)
theorem dX0_forget_14 : decode cX0_forget 14 = .ok (.lconst 0, 1) := dk_9 (dk_at dksX0_forget_0 14 rfl rfl)
theorem dX0_forget_15 : decode cX0_forget 15 = .ok (.lastore, 1) := dk_80 (dk_at dksX0_forget_0 15 rfl rfl)
theorem dX0_forget_16 : decode cX0_forget 16 = .ok (.goto 6, 3) := dk_167 0 6 (dk_at dksX0_forget_0 16 rfl rfl)
theorem dX0_forget_19 : decode cX0_forget 19 = .ok (.astore_n 3, 1) := dk_78 (dk_at dksX0_forget_0 19 rfl rfl)
theorem dX0_forget_20 : decode cX0_forget 20 = .ok (.iconst 1, 1) := dk_4 (dk_at dksX0_forget_0 20 rfl rfl)
theorem dX0_forget_21 : decode cX0_forget 21 = .ok (.ireturn, 1) := dk_172 (dk_at dksX0_forget_0 21 rfl rfl)
theorem dX0_forget_22 : decode cX0_forget 22 = .ok (.iconst 0, 1) := dk_3 (dk_at dksX0_forget_0 22 rfl rfl)
theorem dX0_forget_23 : decode cX0_forget 23 = .ok (.ireturn, 1) := dk_172 (dk_at dksX0_forget_0 23 rfl rfl)
abbrev cX0_service : ByteArray := method_38_code
def yX0_service : MethodName := ⟨RX0, "service", "(LCrateDeck;I[J)I"⟩
def dkwX0_service_0 : List UInt8 := [44, 3, 42, 27, 182, 0, 129, 133, 80, 167, 0, 9, 78, 4, 172, 78, 5, 172, 3, 172]
abbrev dktX0_service_0 : List UInt8 := dkwX0_service_0 ++ []
theorem dksX0_service_0 : cX0_service.data.toList.drop 0 = dktX0_service_0 := by decide +kernel
theorem dX0_service_0 : decode cX0_service 0 = .ok (.aload_n 2, 1) := dk_44 (dk_at dksX0_service_0 0 rfl rfl)
theorem dX0_service_1 : decode cX0_service 1 = .ok (.iconst 0, 1) := dk_3 (dk_at dksX0_service_0 1 rfl rfl)
theorem dX0_service_2 : decode cX0_service 2 = .ok (.aload_n 0, 1) := dk_42 (dk_at dksX0_service_0 2 rfl rfl)
theorem dX0_service_3 : decode cX0_service 3 = .ok (.iload_n 1, 1) := dk_27 (dk_at dksX0_service_0 3 rfl rfl)
theorem dX0_service_4 : decode cX0_service 4 = .ok (.invokevirtual 129, 3) := dk_182 0 129 (dk_at dksX0_service_0 4 rfl rfl)
theorem dX0_service_7 : decode cX0_service 7 = .ok (.i2l, 1) := dk_133 (dk_at dksX0_service_0 7 rfl rfl)
theorem dX0_service_8 : decode cX0_service 8 = .ok (.lastore, 1) := dk_80 (dk_at dksX0_service_0 8 rfl rfl)
theorem dX0_service_9 : decode cX0_service 9 = .ok (.goto 9, 3) := dk_167 0 9 (dk_at dksX0_service_0 9 rfl rfl)
theorem dX0_service_12 : decode cX0_service 12 = .ok (.astore_n 3, 1) := dk_78 (dk_at dksX0_service_0 12 rfl rfl)
theorem dX0_service_13 : decode cX0_service 13 = .ok (.iconst 1, 1) := dk_4 (dk_at dksX0_service_0 13 rfl rfl)
theorem dX0_service_14 : decode cX0_service 14 = .ok (.ireturn, 1) := dk_172 (dk_at dksX0_service_0 14 rfl rfl)
theorem dX0_service_15 : decode cX0_service 15 = .ok (.astore_n 3, 1) := dk_78 (dk_at dksX0_service_0 15 rfl rfl)
theorem dX0_service_16 : decode cX0_service 16 = .ok (.iconst 2, 1) := dk_5 (dk_at dksX0_service_0 16 rfl rfl)
theorem dX0_service_17 : decode cX0_service 17 = .ok (.ireturn, 1) := dk_172 (dk_at dksX0_service_0 17 rfl rfl)
theorem dX0_service_18 : decode cX0_service 18 = .ok (.iconst 0, 1) := dk_3 (dk_at dksX0_service_0 18 rfl rfl)
theorem dX0_service_19 : decode cX0_service 19 = .ok (.ireturn, 1) := dk_172 (dk_at dksX0_service_0 19 rfl rfl)
abbrev cX0_wish : ByteArray := method_39_code
def yX0_wish : MethodName := ⟨RX0, "wish", "(LCrateDeck;III)I"⟩
def dkwX0_wish_0 : List UInt8 := [42, 27, 28, 29, 182, 0, 132, 167, 0, 11, 58, 4, 4, 172, 58, 4, 5, 172, 3, 172]
abbrev dktX0_wish_0 : List UInt8 := dkwX0_wish_0 ++ []
theorem dksX0_wish_0 : cX0_wish.data.toList.drop 0 = dktX0_wish_0 := by decide +kernel
theorem dX0_wish_0 : decode cX0_wish 0 = .ok (.aload_n 0, 1) := dk_42 (dk_at dksX0_wish_0 0 rfl rfl)
theorem dX0_wish_1 : decode cX0_wish 1 = .ok (.iload_n 1, 1) := dk_27 (dk_at dksX0_wish_0 1 rfl rfl)
theorem dX0_wish_2 : decode cX0_wish 2 = .ok (.iload_n 2, 1) := dk_28 (dk_at dksX0_wish_0 2 rfl rfl)
theorem dX0_wish_3 : decode cX0_wish 3 = .ok (.iload_n 3, 1) := dk_29 (dk_at dksX0_wish_0 3 rfl rfl)
theorem dX0_wish_4 : decode cX0_wish 4 = .ok (.invokevirtual 132, 3) := dk_182 0 132 (dk_at dksX0_wish_0 4 rfl rfl)
theorem dX0_wish_7 : decode cX0_wish 7 = .ok (.goto 11, 3) := dk_167 0 11 (dk_at dksX0_wish_0 7 rfl rfl)
theorem dX0_wish_10 : decode cX0_wish 10 = .ok (.astore 4, 2) := dk_58 4 (dk_at dksX0_wish_0 10 rfl rfl)
theorem dX0_wish_12 : decode cX0_wish 12 = .ok (.iconst 1, 1) := dk_4 (dk_at dksX0_wish_0 12 rfl rfl)
theorem dX0_wish_13 : decode cX0_wish 13 = .ok (.ireturn, 1) := dk_172 (dk_at dksX0_wish_0 13 rfl rfl)
theorem dX0_wish_14 : decode cX0_wish 14 = .ok (.astore 4, 2) := dk_58 4 (dk_at dksX0_wish_0 14 rfl rfl)
theorem dX0_wish_16 : decode cX0_wish 16 = .ok (.iconst 2, 1) := dk_5 (dk_at dksX0_wish_0 16 rfl rfl)
theorem dX0_wish_17 : decode cX0_wish 17 = .ok (.ireturn, 1) := dk_172 (dk_at dksX0_wish_0 17 rfl rfl)
theorem dX0_wish_18 : decode cX0_wish 18 = .ok (.iconst 0, 1) := dk_3 (dk_at dksX0_wish_0 18 rfl rfl)
theorem dX0_wish_19 : decode cX0_wish 19 = .ok (.ireturn, 1) := dk_172 (dk_at dksX0_wish_0 19 rfl rfl)
abbrev cX0_serviceHas : ByteArray := method_40_code
def yX0_serviceHas : MethodName := ⟨RX0, "serviceHas", "(LCrateDeck;II[J)I"⟩
def dkwX0_serviceHas_0 : List UInt8 := [45, 3, 42, 27, 28, 182, 0, 135, 133, 80, 167, 0, 11, 58, 4, 4, 172, 58, 4, 5, 172, 3, 172]
abbrev dktX0_serviceHas_0 : List UInt8 := dkwX0_serviceHas_0 ++ []
theorem dksX0_serviceHas_0 : cX0_serviceHas.data.toList.drop 0 = dktX0_serviceHas_0 := by decide +kernel
theorem dX0_serviceHas_0 : decode cX0_serviceHas 0 = .ok (.aload_n 3, 1) := dk_45 (dk_at dksX0_serviceHas_0 0 rfl rfl)
theorem dX0_serviceHas_1 : decode cX0_serviceHas 1 = .ok (.iconst 0, 1) := dk_3 (dk_at dksX0_serviceHas_0 1 rfl rfl)
theorem dX0_serviceHas_2 : decode cX0_serviceHas 2 = .ok (.aload_n 0, 1) := dk_42 (dk_at dksX0_serviceHas_0 2 rfl rfl)
theorem dX0_serviceHas_3 : decode cX0_serviceHas 3 = .ok (.iload_n 1, 1) := dk_27 (dk_at dksX0_serviceHas_0 3 rfl rfl)
theorem dX0_serviceHas_4 : decode cX0_serviceHas 4 = .ok (.iload_n 2, 1) := dk_28 (dk_at dksX0_serviceHas_0 4 rfl rfl)
theorem dX0_serviceHas_5 : decode cX0_serviceHas 5 = .ok (.invokevirtual 135, 3) := dk_182 0 135 (dk_at dksX0_serviceHas_0 5 rfl rfl)
theorem dX0_serviceHas_8 : decode cX0_serviceHas 8 = .ok (.i2l, 1) := dk_133 (dk_at dksX0_serviceHas_0 8 rfl rfl)
theorem dX0_serviceHas_9 : decode cX0_serviceHas 9 = .ok (.lastore, 1) := dk_80 (dk_at dksX0_serviceHas_0 9 rfl rfl)
theorem dX0_serviceHas_10 : decode cX0_serviceHas 10 = .ok (.goto 11, 3) := dk_167 0 11 (dk_at dksX0_serviceHas_0 10 rfl rfl)
theorem dX0_serviceHas_13 : decode cX0_serviceHas 13 = .ok (.astore 4, 2) := dk_58 4 (dk_at dksX0_serviceHas_0 13 rfl rfl)
theorem dX0_serviceHas_15 : decode cX0_serviceHas 15 = .ok (.iconst 1, 1) := dk_4 (dk_at dksX0_serviceHas_0 15 rfl rfl)
theorem dX0_serviceHas_16 : decode cX0_serviceHas 16 = .ok (.ireturn, 1) := dk_172 (dk_at dksX0_serviceHas_0 16 rfl rfl)
theorem dX0_serviceHas_17 : decode cX0_serviceHas 17 = .ok (.astore 4, 2) := dk_58 4 (dk_at dksX0_serviceHas_0 17 rfl rfl)
theorem dX0_serviceHas_19 : decode cX0_serviceHas 19 = .ok (.iconst 2, 1) := dk_5 (dk_at dksX0_serviceHas_0 19 rfl rfl)
theorem dX0_serviceHas_20 : decode cX0_serviceHas 20 = .ok (.ireturn, 1) := dk_172 (dk_at dksX0_serviceHas_0 20 rfl rfl)
theorem dX0_serviceHas_21 : decode cX0_serviceHas 21 = .ok (.iconst 0, 1) := dk_3 (dk_at dksX0_serviceHas_0 21 rfl rfl)
theorem dX0_serviceHas_22 : decode cX0_serviceHas 22 = .ok (.ireturn, 1) := dk_172 (dk_at dksX0_serviceHas_0 22 rfl rfl)
abbrev cX0_setHealth : ByteArray := method_41_code
def yX0_setHealth : MethodName := ⟨RX0, "setHealth", "(LCrateDeck;IZ)I"⟩
def dkwX0_setHealth_0 : List UInt8 := [42, 27, 28, 182, 0, 138, 167, 0, 6, 78, 4, 172, 3, 172]
abbrev dktX0_setHealth_0 : List UInt8 := dkwX0_setHealth_0 ++ []
theorem dksX0_setHealth_0 : cX0_setHealth.data.toList.drop 0 = dktX0_setHealth_0 := by decide +kernel
theorem dX0_setHealth_0 : decode cX0_setHealth 0 = .ok (.aload_n 0, 1) := dk_42 (dk_at dksX0_setHealth_0 0 rfl rfl)
theorem dX0_setHealth_1 : decode cX0_setHealth 1 = .ok (.iload_n 1, 1) := dk_27 (dk_at dksX0_setHealth_0 1 rfl rfl)
theorem dX0_setHealth_2 : decode cX0_setHealth 2 = .ok (.iload_n 2, 1) := dk_28 (dk_at dksX0_setHealth_0 2 rfl rfl)
theorem dX0_setHealth_3 : decode cX0_setHealth 3 = .ok (.invokevirtual 138, 3) := dk_182 0 138 (dk_at dksX0_setHealth_0 3 rfl rfl)
theorem dX0_setHealth_6 : decode cX0_setHealth 6 = .ok (.goto 6, 3) := dk_167 0 6 (dk_at dksX0_setHealth_0 6 rfl rfl)
theorem dX0_setHealth_9 : decode cX0_setHealth 9 = .ok (.astore_n 3, 1) := dk_78 (dk_at dksX0_setHealth_0 9 rfl rfl)
theorem dX0_setHealth_10 : decode cX0_setHealth 10 = .ok (.iconst 1, 1) := dk_4 (dk_at dksX0_setHealth_0 10 rfl rfl)
theorem dX0_setHealth_11 : decode cX0_setHealth 11 = .ok (.ireturn, 1) := dk_172 (dk_at dksX0_setHealth_0 11 rfl rfl)
theorem dX0_setHealth_12 : decode cX0_setHealth 12 = .ok (.iconst 0, 1) := dk_3 (dk_at dksX0_setHealth_0 12 rfl rfl)
theorem dX0_setHealth_13 : decode cX0_setHealth 13 = .ok (.ireturn, 1) := dk_172 (dk_at dksX0_setHealth_0 13 rfl rfl)
abbrev cX0_pass : ByteArray := method_42_code
def yX0_pass : MethodName := ⟨RX0, "pass", "(LCrateDeck;I[J)I"⟩
def dkwX0_pass_0 : List UInt8 := [44, 3, 42, 27, 182, 0, 142, 133, 80, 167, 0, 6, 78, 4, 172, 3, 172]
abbrev dktX0_pass_0 : List UInt8 := dkwX0_pass_0 ++ []
theorem dksX0_pass_0 : cX0_pass.data.toList.drop 0 = dktX0_pass_0 := by decide +kernel
theorem dX0_pass_0 : decode cX0_pass 0 = .ok (.aload_n 2, 1) := dk_44 (dk_at dksX0_pass_0 0 rfl rfl)
theorem dX0_pass_1 : decode cX0_pass 1 = .ok (.iconst 0, 1) := dk_3 (dk_at dksX0_pass_0 1 rfl rfl)
theorem dX0_pass_2 : decode cX0_pass 2 = .ok (.aload_n 0, 1) := dk_42 (dk_at dksX0_pass_0 2 rfl rfl)
theorem dX0_pass_3 : decode cX0_pass 3 = .ok (.iload_n 1, 1) := dk_27 (dk_at dksX0_pass_0 3 rfl rfl)
theorem dX0_pass_4 : decode cX0_pass 4 = .ok (.invokevirtual 142, 3) := dk_182 0 142 (dk_at dksX0_pass_0 4 rfl rfl)
theorem dX0_pass_7 : decode cX0_pass 7 = .ok (.i2l, 1) := dk_133 (dk_at dksX0_pass_0 7 rfl rfl)
theorem dX0_pass_8 : decode cX0_pass 8 = .ok (.lastore, 1) := dk_80 (dk_at dksX0_pass_0 8 rfl rfl)
theorem dX0_pass_9 : decode cX0_pass 9 = .ok (.goto 6, 3) := dk_167 0 6 (dk_at dksX0_pass_0 9 rfl rfl)
theorem dX0_pass_12 : decode cX0_pass 12 = .ok (.astore_n 3, 1) := dk_78 (dk_at dksX0_pass_0 12 rfl rfl)
theorem dX0_pass_13 : decode cX0_pass 13 = .ok (.iconst 1, 1) := dk_4 (dk_at dksX0_pass_0 13 rfl rfl)
theorem dX0_pass_14 : decode cX0_pass 14 = .ok (.ireturn, 1) := dk_172 (dk_at dksX0_pass_0 14 rfl rfl)
theorem dX0_pass_15 : decode cX0_pass 15 = .ok (.iconst 0, 1) := dk_3 (dk_at dksX0_pass_0 15 rfl rfl)
theorem dX0_pass_16 : decode cX0_pass 16 = .ok (.ireturn, 1) := dk_172 (dk_at dksX0_pass_0 16 rfl rfl)
theorem q85 : (Jvm.Cond.initialized "CrateDeckLaw") ∈ lw_all := lw_g (lw_at lw_m1 0 rfl) rfl
theorem q123 : (Jvm.Cond.classLink "CrateDeckLaw" (8 : Nat) "CrateDeck") ∈ lw_all := lw_g (lw_at lw_m1 38 rfl) rfl
theorem q125 : (Jvm.Cond.methodLink "CrateDeckLaw" (145 : Nat) ({ cls := "CrateDeck", name := "<init>", desc := "()V" } : Jvm.MethodName)) ∈ lw_all := lw_g (lw_at lw_m1 40 rfl) rfl
theorem q380 : (Jvm.Cond.methodLink "CrateDeckLaw" (257 : Nat) ({ cls := "CrateDeck", name := "hits", desc := "()I" } : Jvm.MethodName)) ∈ lw_all := lw_g (lw_at lw_m2 55 rfl) rfl
theorem q384 : (Jvm.Cond.methodLink "CrateDeckLaw" (270 : Nat) ({ cls := "CrateDeck", name := "sweep", desc := "()I" } : Jvm.MethodName)) ∈ lw_all := lw_g (lw_at lw_m2 59 rfl) rfl
theorem q431 : (Jvm.Cond.methodLink "CrateDeckLaw" (274 : Nat) ({ cls := "CrateDeck", name := "dropLayers", desc := "()I" } : Jvm.MethodName)) ∈ lw_all := lw_g (lw_at lw_m2 106 rfl) rfl
theorem q437 : (Jvm.Cond.methodLink "CrateDeckLaw" (278 : Nat) ({ cls := "CrateDeck", name := "layers", desc := "(Z)I" } : Jvm.MethodName)) ∈ lw_all := lw_g (lw_at lw_m2 112 rfl) rfl
theorem q441 : (Jvm.Cond.methodLink "CrateDeckLaw" (149 : Nat) ({ cls := "CrateDeckLaw", name := "entry", desc := "(LCrateDeck;III[J)I" } : Jvm.MethodName)) ∈ lw_all := lw_g (lw_at lw_m2 116 rfl) rfl
theorem q442 : (Jvm.Cond.static ({ cls := "CrateDeckLaw", name := "entry", desc := "(LCrateDeck;III[J)I" } : Jvm.MethodName)) ∈ lw_all := lw_g (lw_at lw_m2 117 rfl) rfl
theorem q443 : (Jvm.Cond.codeWith ({ cls := "CrateDeckLaw", name := "entry", desc := "(LCrateDeck;III[J)I" } : Jvm.MethodName) method_3_code (6 : Nat) (Option.some Jvm.ClassFile.FieldType.int) [((0 : Nat), (12 : Nat), (15 : Nat), (13 : Nat)), ((0 : Nat), (12 : Nat), (19 : Nat), (15 : Nat))]) ∈ lw_all := lw_g (lw_at lw_m2 118 rfl) rfl
theorem q444 : (Jvm.Cond.classLink "CrateDeckLaw" (13 : Nat) "java/lang/IllegalArgumentException") ∈ lw_all := lw_g (lw_at lw_m2 119 rfl) rfl
theorem q445 : (Jvm.Cond.classLink "CrateDeckLaw" (15 : Nat) "java/lang/IllegalStateException") ∈ lw_all := lw_g (lw_at lw_m2 120 rfl) rfl
theorem q446 : (Jvm.Cond.methodLink "CrateDeckLaw" (7 : Nat) ({ cls := "CrateDeck", name := "entry", desc := "(III)I" } : Jvm.MethodName)) ∈ lw_all := lw_g (lw_at lw_m2 121 rfl) rfl
theorem q597 : (Jvm.Cond.methodLink "CrateDeckLaw" (158 : Nat) ({ cls := "CrateDeckLaw", name := "layer", desc := "(LCrateDeck;[J)I" } : Jvm.MethodName)) ∈ lw_all := lw_g (lw_at lw_m3 32 rfl) rfl
theorem q598 : (Jvm.Cond.static ({ cls := "CrateDeckLaw", name := "layer", desc := "(LCrateDeck;[J)I" } : Jvm.MethodName)) ∈ lw_all := lw_g (lw_at lw_m3 33 rfl) rfl
theorem q599 : (Jvm.Cond.codeWith ({ cls := "CrateDeckLaw", name := "layer", desc := "(LCrateDeck;[J)I" } : Jvm.MethodName) method_4_code (3 : Nat) (Option.some Jvm.ClassFile.FieldType.int) [((0 : Nat), (8 : Nat), (11 : Nat), (15 : Nat))]) ∈ lw_all := lw_g (lw_at lw_m3 34 rfl) rfl
theorem q600 : (Jvm.Cond.methodLink "CrateDeckLaw" (17 : Nat) ({ cls := "CrateDeck", name := "layer", desc := "()I" } : Jvm.MethodName)) ∈ lw_all := lw_g (lw_at lw_m3 35 rfl) rfl
theorem q659 : (Jvm.Cond.methodLink "CrateDeckLaw" (162 : Nat) ({ cls := "CrateDeckLaw", name := "image", desc := "(LCrateDeck;II[J)I" } : Jvm.MethodName)) ∈ lw_all := lw_g (lw_at lw_m3 94 rfl) rfl
theorem q660 : (Jvm.Cond.static ({ cls := "CrateDeckLaw", name := "image", desc := "(LCrateDeck;II[J)I" } : Jvm.MethodName)) ∈ lw_all := lw_g (lw_at lw_m3 95 rfl) rfl
theorem q661 : (Jvm.Cond.codeWith ({ cls := "CrateDeckLaw", name := "image", desc := "(LCrateDeck;II[J)I" } : Jvm.MethodName) method_5_code (5 : Nat) (Option.some Jvm.ClassFile.FieldType.int) [((0 : Nat), (10 : Nat), (13 : Nat), (25 : Nat)), ((0 : Nat), (10 : Nat), (17 : Nat), (15 : Nat))]) ∈ lw_all := lw_g (lw_at lw_m3 96 rfl) rfl
theorem q662 : (Jvm.Cond.classLink "CrateDeckLaw" (25 : Nat) "java/lang/IndexOutOfBoundsException") ∈ lw_all := lw_g (lw_at lw_m3 97 rfl) rfl
theorem q695 : (Jvm.Cond.methodLink "CrateDeckLaw" (21 : Nat) ({ cls := "CrateDeck", name := "image", desc := "(II)I" } : Jvm.MethodName)) ∈ lw_all := lw_g (lw_at lw_m3 130 rfl) rfl
theorem q775 : (Jvm.Cond.methodLink "CrateDeckLaw" (166 : Nat) ({ cls := "CrateDeckLaw", name := "shows", desc := "(LCrateDeck;II[J)I" } : Jvm.MethodName)) ∈ lw_all := lw_g (lw_at lw_m3 210 rfl) rfl
theorem q776 : (Jvm.Cond.static ({ cls := "CrateDeckLaw", name := "shows", desc := "(LCrateDeck;II[J)I" } : Jvm.MethodName)) ∈ lw_all := lw_g (lw_at lw_m3 211 rfl) rfl
theorem q777 : (Jvm.Cond.codeWith ({ cls := "CrateDeckLaw", name := "shows", desc := "(LCrateDeck;II[J)I" } : Jvm.MethodName) method_6_code (5 : Nat) (Option.some Jvm.ClassFile.FieldType.int) [((0 : Nat), (10 : Nat), (13 : Nat), (25 : Nat)), ((0 : Nat), (10 : Nat), (17 : Nat), (13 : Nat))]) ∈ lw_all := lw_g (lw_at lw_m3 212 rfl) rfl
theorem q778 : (Jvm.Cond.methodLink "CrateDeckLaw" (27 : Nat) ({ cls := "CrateDeck", name := "shows", desc := "(II)I" } : Jvm.MethodName)) ∈ lw_all := lw_g (lw_at lw_m3 213 rfl) rfl
theorem q815 : (Jvm.Cond.methodLink "CrateDeckLaw" (169 : Nat) ({ cls := "CrateDeckLaw", name := "showsByAll", desc := "(LCrateDeck;II[J)I" } : Jvm.MethodName)) ∈ lw_all := lw_g (lw_at lw_m4 10 rfl) rfl
theorem q816 : (Jvm.Cond.static ({ cls := "CrateDeckLaw", name := "showsByAll", desc := "(LCrateDeck;II[J)I" } : Jvm.MethodName)) ∈ lw_all := lw_g (lw_at lw_m4 11 rfl) rfl
theorem q817 : (Jvm.Cond.codeWith ({ cls := "CrateDeckLaw", name := "showsByAll", desc := "(LCrateDeck;II[J)I" } : Jvm.MethodName) method_7_code (5 : Nat) (Option.some Jvm.ClassFile.FieldType.int) [((0 : Nat), (10 : Nat), (13 : Nat), (25 : Nat)), ((0 : Nat), (10 : Nat), (17 : Nat), (13 : Nat))]) ∈ lw_all := lw_g (lw_at lw_m4 12 rfl) rfl
theorem q818 : (Jvm.Cond.methodLink "CrateDeckLaw" (30 : Nat) ({ cls := "CrateDeck", name := "showsByAll", desc := "(II)I" } : Jvm.MethodName)) ∈ lw_all := lw_g (lw_at lw_m4 13 rfl) rfl
theorem q848 : (Jvm.Cond.methodLink "CrateDeckLaw" (172 : Nat) ({ cls := "CrateDeckLaw", name := "start", desc := "(LCrateDeck;II[J)I" } : Jvm.MethodName)) ∈ lw_all := lw_g (lw_at lw_m4 43 rfl) rfl
theorem q849 : (Jvm.Cond.static ({ cls := "CrateDeckLaw", name := "start", desc := "(LCrateDeck;II[J)I" } : Jvm.MethodName)) ∈ lw_all := lw_g (lw_at lw_m4 44 rfl) rfl
theorem q850 : (Jvm.Cond.codeWith ({ cls := "CrateDeckLaw", name := "start", desc := "(LCrateDeck;II[J)I" } : Jvm.MethodName) method_8_code (5 : Nat) (Option.some Jvm.ClassFile.FieldType.int) [((0 : Nat), (10 : Nat), (13 : Nat), (25 : Nat)), ((0 : Nat), (10 : Nat), (17 : Nat), (13 : Nat)), ((0 : Nat), (10 : Nat), (21 : Nat), (15 : Nat))]) ∈ lw_all := lw_g (lw_at lw_m4 45 rfl) rfl
theorem q851 : (Jvm.Cond.methodLink "CrateDeckLaw" (33 : Nat) ({ cls := "CrateDeck", name := "start", desc := "(II)I" } : Jvm.MethodName)) ∈ lw_all := lw_g (lw_at lw_m4 46 rfl) rfl
theorem q919 : (Jvm.Cond.methodLink "CrateDeckLaw" (175 : Nat) ({ cls := "CrateDeckLaw", name := "stop", desc := "(LCrateDeck;I[J)I" } : Jvm.MethodName)) ∈ lw_all := lw_g (lw_at lw_m4 114 rfl) rfl
theorem q920 : (Jvm.Cond.static ({ cls := "CrateDeckLaw", name := "stop", desc := "(LCrateDeck;I[J)I" } : Jvm.MethodName)) ∈ lw_all := lw_g (lw_at lw_m4 115 rfl) rfl
theorem q921 : (Jvm.Cond.codeWith ({ cls := "CrateDeckLaw", name := "stop", desc := "(LCrateDeck;I[J)I" } : Jvm.MethodName) method_9_code (4 : Nat) (Option.some Jvm.ClassFile.FieldType.int) [((0 : Nat), (9 : Nat), (12 : Nat), (25 : Nat))]) ∈ lw_all := lw_g (lw_at lw_m4 116 rfl) rfl
theorem q922 : (Jvm.Cond.methodLink "CrateDeckLaw" (36 : Nat) ({ cls := "CrateDeck", name := "stop", desc := "(I)I" } : Jvm.MethodName)) ∈ lw_all := lw_g (lw_at lw_m4 117 rfl) rfl
theorem q985 : (Jvm.Cond.methodLink "CrateDeckLaw" (179 : Nat) ({ cls := "CrateDeckLaw", name := "container", desc := "(LCrateDeck;II[J)I" } : Jvm.MethodName)) ∈ lw_all := lw_g (lw_at lw_m4 180 rfl) rfl
theorem q986 : (Jvm.Cond.static ({ cls := "CrateDeckLaw", name := "container", desc := "(LCrateDeck;II[J)I" } : Jvm.MethodName)) ∈ lw_all := lw_g (lw_at lw_m4 181 rfl) rfl
theorem q987 : (Jvm.Cond.codeWith ({ cls := "CrateDeckLaw", name := "container", desc := "(LCrateDeck;II[J)I" } : Jvm.MethodName) method_10_code (5 : Nat) (Option.some Jvm.ClassFile.FieldType.int) [((0 : Nat), (10 : Nat), (13 : Nat), (25 : Nat)), ((0 : Nat), (10 : Nat), (17 : Nat), (13 : Nat))]) ∈ lw_all := lw_g (lw_at lw_m4 182 rfl) rfl
theorem q988 : (Jvm.Cond.methodLink "CrateDeckLaw" (40 : Nat) ({ cls := "CrateDeck", name := "container", desc := "(II)I" } : Jvm.MethodName)) ∈ lw_all := lw_g (lw_at lw_m4 183 rfl) rfl
theorem q996 : (Jvm.Cond.methodLink "CrateDeckLaw" (182 : Nat) ({ cls := "CrateDeckLaw", name := "look", desc := "(LCrateDeck;II[J)I" } : Jvm.MethodName)) ∈ lw_all := lw_g (lw_at lw_m4 191 rfl) rfl
theorem q997 : (Jvm.Cond.static ({ cls := "CrateDeckLaw", name := "look", desc := "(LCrateDeck;II[J)I" } : Jvm.MethodName)) ∈ lw_all := lw_g (lw_at lw_m4 192 rfl) rfl
theorem q998 : (Jvm.Cond.codeWith ({ cls := "CrateDeckLaw", name := "look", desc := "(LCrateDeck;II[J)I" } : Jvm.MethodName) method_11_code (5 : Nat) (Option.some Jvm.ClassFile.FieldType.int) [((0 : Nat), (10 : Nat), (13 : Nat), (25 : Nat)), ((0 : Nat), (10 : Nat), (17 : Nat), (13 : Nat))]) ∈ lw_all := lw_g (lw_at lw_m4 193 rfl) rfl
theorem q999 : (Jvm.Cond.methodLink "CrateDeckLaw" (43 : Nat) ({ cls := "CrateDeck", name := "look", desc := "(II)I" } : Jvm.MethodName)) ∈ lw_all := lw_g (lw_at lw_m4 194 rfl) rfl
theorem q1026 : (Jvm.Cond.methodLink "CrateDeckLaw" (185 : Nat) ({ cls := "CrateDeckLaw", name := "write", desc := "(LCrateDeck;III[J)I" } : Jvm.MethodName)) ∈ lw_all := lw_g (lw_at lw_m4 221 rfl) rfl
theorem q1027 : (Jvm.Cond.static ({ cls := "CrateDeckLaw", name := "write", desc := "(LCrateDeck;III[J)I" } : Jvm.MethodName)) ∈ lw_all := lw_g (lw_at lw_m4 222 rfl) rfl
theorem q1028 : (Jvm.Cond.codeWith ({ cls := "CrateDeckLaw", name := "write", desc := "(LCrateDeck;III[J)I" } : Jvm.MethodName) method_12_code (6 : Nat) (Option.some Jvm.ClassFile.FieldType.int) [((0 : Nat), (12 : Nat), (15 : Nat), (25 : Nat)), ((0 : Nat), (12 : Nat), (19 : Nat), (13 : Nat)), ((0 : Nat), (12 : Nat), (23 : Nat), (15 : Nat))]) ∈ lw_all := lw_g (lw_at lw_m4 223 rfl) rfl
theorem q1029 : (Jvm.Cond.methodLink "CrateDeckLaw" (46 : Nat) ({ cls := "CrateDeck", name := "write", desc := "(III)I" } : Jvm.MethodName)) ∈ lw_all := lw_g (lw_at lw_m4 224 rfl) rfl
theorem q1033 : (Jvm.Cond.methodLink "CrateDeckLaw" (188 : Nat) ({ cls := "CrateDeckLaw", name := "makeFolder", desc := "(LCrateDeck;II)I" } : Jvm.MethodName)) ∈ lw_all := lw_g (lw_at lw_m4 228 rfl) rfl
theorem q1034 : (Jvm.Cond.static ({ cls := "CrateDeckLaw", name := "makeFolder", desc := "(LCrateDeck;II)I" } : Jvm.MethodName)) ∈ lw_all := lw_g (lw_at lw_m4 229 rfl) rfl
theorem q1035 : (Jvm.Cond.codeWith ({ cls := "CrateDeckLaw", name := "makeFolder", desc := "(LCrateDeck;II)I" } : Jvm.MethodName) method_13_code (4 : Nat) (Option.some Jvm.ClassFile.FieldType.int) [((0 : Nat), (6 : Nat), (9 : Nat), (25 : Nat)), ((0 : Nat), (6 : Nat), (12 : Nat), (13 : Nat)), ((0 : Nat), (6 : Nat), (15 : Nat), (15 : Nat))]) ∈ lw_all := lw_g (lw_at lw_m4 230 rfl) rfl
theorem q1036 : (Jvm.Cond.methodLink "CrateDeckLaw" (49 : Nat) ({ cls := "CrateDeck", name := "makeFolder", desc := "(II)V" } : Jvm.MethodName)) ∈ lw_all := lw_g (lw_at lw_m4 231 rfl) rfl
theorem q1043 : (Jvm.Cond.methodLink "CrateDeckLaw" (192 : Nat) ({ cls := "CrateDeckLaw", name := "remove", desc := "(LCrateDeck;II[J)I" } : Jvm.MethodName)) ∈ lw_all := lw_g (lw_at lw_m4 238 rfl) rfl
theorem q1044 : (Jvm.Cond.static ({ cls := "CrateDeckLaw", name := "remove", desc := "(LCrateDeck;II[J)I" } : Jvm.MethodName)) ∈ lw_all := lw_g (lw_at lw_m4 239 rfl) rfl
theorem q1045 : (Jvm.Cond.codeWith ({ cls := "CrateDeckLaw", name := "remove", desc := "(LCrateDeck;II[J)I" } : Jvm.MethodName) method_14_code (5 : Nat) (Option.some Jvm.ClassFile.FieldType.int) [((0 : Nat), (10 : Nat), (13 : Nat), (25 : Nat)), ((0 : Nat), (10 : Nat), (17 : Nat), (13 : Nat)), ((0 : Nat), (10 : Nat), (21 : Nat), (15 : Nat))]) ∈ lw_all := lw_g (lw_at lw_m5 0 rfl) rfl
theorem q1046 : (Jvm.Cond.methodLink "CrateDeckLaw" (53 : Nat) ({ cls := "CrateDeck", name := "remove", desc := "(II)I" } : Jvm.MethodName)) ∈ lw_all := lw_g (lw_at lw_m5 1 rfl) rfl
theorem q1065 : (Jvm.Cond.methodLink "CrateDeckLaw" (195 : Nat) ({ cls := "CrateDeckLaw", name := "move", desc := "(LCrateDeck;III)I" } : Jvm.MethodName)) ∈ lw_all := lw_g (lw_at lw_m5 20 rfl) rfl
theorem q1066 : (Jvm.Cond.static ({ cls := "CrateDeckLaw", name := "move", desc := "(LCrateDeck;III)I" } : Jvm.MethodName)) ∈ lw_all := lw_g (lw_at lw_m5 21 rfl) rfl
theorem q1067 : (Jvm.Cond.codeWith ({ cls := "CrateDeckLaw", name := "move", desc := "(LCrateDeck;III)I" } : Jvm.MethodName) method_15_code (5 : Nat) (Option.some Jvm.ClassFile.FieldType.int) [((0 : Nat), (7 : Nat), (10 : Nat), (25 : Nat)), ((0 : Nat), (7 : Nat), (14 : Nat), (13 : Nat)), ((0 : Nat), (7 : Nat), (18 : Nat), (15 : Nat))]) ∈ lw_all := lw_g (lw_at lw_m5 22 rfl) rfl
theorem q1068 : (Jvm.Cond.methodLink "CrateDeckLaw" (56 : Nat) ({ cls := "CrateDeck", name := "move", desc := "(III)V" } : Jvm.MethodName)) ∈ lw_all := lw_g (lw_at lw_m5 23 rfl) rfl
theorem q1085 : (Jvm.Cond.methodLink "CrateDeckLaw" (199 : Nat) ({ cls := "CrateDeckLaw", name := "mount", desc := "(LCrateDeck;III)I" } : Jvm.MethodName)) ∈ lw_all := lw_g (lw_at lw_m5 40 rfl) rfl
theorem q1086 : (Jvm.Cond.static ({ cls := "CrateDeckLaw", name := "mount", desc := "(LCrateDeck;III)I" } : Jvm.MethodName)) ∈ lw_all := lw_g (lw_at lw_m5 41 rfl) rfl
theorem q1087 : (Jvm.Cond.codeWith ({ cls := "CrateDeckLaw", name := "mount", desc := "(LCrateDeck;III)I" } : Jvm.MethodName) method_16_code (5 : Nat) (Option.some Jvm.ClassFile.FieldType.int) [((0 : Nat), (7 : Nat), (10 : Nat), (25 : Nat)), ((0 : Nat), (7 : Nat), (14 : Nat), (13 : Nat)), ((0 : Nat), (7 : Nat), (18 : Nat), (15 : Nat))]) ∈ lw_all := lw_g (lw_at lw_m5 42 rfl) rfl
theorem q1088 : (Jvm.Cond.methodLink "CrateDeckLaw" (60 : Nat) ({ cls := "CrateDeck", name := "mount", desc := "(III)V" } : Jvm.MethodName)) ∈ lw_all := lw_g (lw_at lw_m5 43 rfl) rfl
theorem q1105 : (Jvm.Cond.methodLink "CrateDeckLaw" (202 : Nat) ({ cls := "CrateDeckLaw", name := "commit", desc := "(LCrateDeck;I[J)I" } : Jvm.MethodName)) ∈ lw_all := lw_g (lw_at lw_m5 60 rfl) rfl
theorem q1106 : (Jvm.Cond.static ({ cls := "CrateDeckLaw", name := "commit", desc := "(LCrateDeck;I[J)I" } : Jvm.MethodName)) ∈ lw_all := lw_g (lw_at lw_m5 61 rfl) rfl
theorem q1107 : (Jvm.Cond.codeWith ({ cls := "CrateDeckLaw", name := "commit", desc := "(LCrateDeck;I[J)I" } : Jvm.MethodName) method_17_code (4 : Nat) (Option.some Jvm.ClassFile.FieldType.int) [((0 : Nat), (9 : Nat), (12 : Nat), (25 : Nat)), ((0 : Nat), (9 : Nat), (15 : Nat), (15 : Nat))]) ∈ lw_all := lw_g (lw_at lw_m5 62 rfl) rfl
theorem q1108 : (Jvm.Cond.methodLink "CrateDeckLaw" (63 : Nat) ({ cls := "CrateDeck", name := "commit", desc := "(I)I" } : Jvm.MethodName)) ∈ lw_all := lw_g (lw_at lw_m5 63 rfl) rfl
theorem q1112 : (Jvm.Cond.methodLink "CrateDeckLaw" (205 : Nat) ({ cls := "CrateDeckLaw", name := "user", desc := "(LCrateDeck;I[J)I" } : Jvm.MethodName)) ∈ lw_all := lw_g (lw_at lw_m5 67 rfl) rfl
theorem q1113 : (Jvm.Cond.static ({ cls := "CrateDeckLaw", name := "user", desc := "(LCrateDeck;I[J)I" } : Jvm.MethodName)) ∈ lw_all := lw_g (lw_at lw_m5 68 rfl) rfl
theorem q1114 : (Jvm.Cond.codeWith ({ cls := "CrateDeckLaw", name := "user", desc := "(LCrateDeck;I[J)I" } : Jvm.MethodName) method_18_code (4 : Nat) (Option.some Jvm.ClassFile.FieldType.int) [((0 : Nat), (9 : Nat), (12 : Nat), (25 : Nat)), ((0 : Nat), (9 : Nat), (15 : Nat), (15 : Nat))]) ∈ lw_all := lw_g (lw_at lw_m5 69 rfl) rfl
theorem q1115 : (Jvm.Cond.methodLink "CrateDeckLaw" (66 : Nat) ({ cls := "CrateDeck", name := "user", desc := "(I)I" } : Jvm.MethodName)) ∈ lw_all := lw_g (lw_at lw_m5 70 rfl) rfl
theorem q1123 : (Jvm.Cond.methodLink "CrateDeckLaw" (208 : Nat) ({ cls := "CrateDeckLaw", name := "range", desc := "(LCrateDeck;IIII[J)I" } : Jvm.MethodName)) ∈ lw_all := lw_g (lw_at lw_m5 78 rfl) rfl
theorem q1124 : (Jvm.Cond.static ({ cls := "CrateDeckLaw", name := "range", desc := "(LCrateDeck;IIII[J)I" } : Jvm.MethodName)) ∈ lw_all := lw_g (lw_at lw_m5 79 rfl) rfl
theorem q1125 : (Jvm.Cond.codeWith ({ cls := "CrateDeckLaw", name := "range", desc := "(LCrateDeck;IIII[J)I" } : Jvm.MethodName) method_19_code (7 : Nat) (Option.some Jvm.ClassFile.FieldType.int) [((0 : Nat), (14 : Nat), (17 : Nat), (25 : Nat)), ((0 : Nat), (14 : Nat), (21 : Nat), (13 : Nat)), ((0 : Nat), (14 : Nat), (25 : Nat), (15 : Nat))]) ∈ lw_all := lw_g (lw_at lw_m5 80 rfl) rfl
theorem q1126 : (Jvm.Cond.methodLink "CrateDeckLaw" (69 : Nat) ({ cls := "CrateDeck", name := "range", desc := "(IIII)I" } : Jvm.MethodName)) ∈ lw_all := lw_g (lw_at lw_m5 81 rfl) rfl
theorem q1151 : (Jvm.Cond.methodLink "CrateDeckLaw" (212 : Nat) ({ cls := "CrateDeckLaw", name := "hostId", desc := "(LCrateDeck;II[J)I" } : Jvm.MethodName)) ∈ lw_all := lw_g (lw_at lw_m5 106 rfl) rfl
theorem q1152 : (Jvm.Cond.static ({ cls := "CrateDeckLaw", name := "hostId", desc := "(LCrateDeck;II[J)I" } : Jvm.MethodName)) ∈ lw_all := lw_g (lw_at lw_m5 107 rfl) rfl
theorem q1153 : (Jvm.Cond.codeWith ({ cls := "CrateDeckLaw", name := "hostId", desc := "(LCrateDeck;II[J)I" } : Jvm.MethodName) method_20_code (5 : Nat) (Option.some Jvm.ClassFile.FieldType.int) [((0 : Nat), (10 : Nat), (13 : Nat), (25 : Nat)), ((0 : Nat), (10 : Nat), (17 : Nat), (13 : Nat))]) ∈ lw_all := lw_g (lw_at lw_m5 108 rfl) rfl
theorem q1154 : (Jvm.Cond.methodLink "CrateDeckLaw" (73 : Nat) ({ cls := "CrateDeck", name := "hostId", desc := "(II)I" } : Jvm.MethodName)) ∈ lw_all := lw_g (lw_at lw_m5 109 rfl) rfl
theorem q1179 : (Jvm.Cond.methodLink "CrateDeckLaw" (215 : Nat) ({ cls := "CrateDeckLaw", name := "canAct", desc := "(LCrateDeck;II[J)I" } : Jvm.MethodName)) ∈ lw_all := lw_g (lw_at lw_m5 134 rfl) rfl
theorem q1180 : (Jvm.Cond.static ({ cls := "CrateDeckLaw", name := "canAct", desc := "(LCrateDeck;II[J)I" } : Jvm.MethodName)) ∈ lw_all := lw_g (lw_at lw_m5 135 rfl) rfl
theorem q1181 : (Jvm.Cond.codeWith ({ cls := "CrateDeckLaw", name := "canAct", desc := "(LCrateDeck;II[J)I" } : Jvm.MethodName) method_21_code (5 : Nat) (Option.some Jvm.ClassFile.FieldType.int) [((0 : Nat), (17 : Nat), (20 : Nat), (25 : Nat))]) ∈ lw_all := lw_g (lw_at lw_m5 136 rfl) rfl
theorem q1182 : (Jvm.Cond.methodLink "CrateDeckLaw" (76 : Nat) ({ cls := "CrateDeck", name := "canAct", desc := "(II)Z" } : Jvm.MethodName)) ∈ lw_all := lw_g (lw_at lw_m5 137 rfl) rfl
theorem q1186 : (Jvm.Cond.methodLink "CrateDeckLaw" (218 : Nat) ({ cls := "CrateDeckLaw", name := "group", desc := "(LCrateDeck;IIII[J)I" } : Jvm.MethodName)) ∈ lw_all := lw_g (lw_at lw_m5 141 rfl) rfl
theorem q1187 : (Jvm.Cond.static ({ cls := "CrateDeckLaw", name := "group", desc := "(LCrateDeck;IIII[J)I" } : Jvm.MethodName)) ∈ lw_all := lw_g (lw_at lw_m5 142 rfl) rfl
theorem q1188 : (Jvm.Cond.codeWith ({ cls := "CrateDeckLaw", name := "group", desc := "(LCrateDeck;IIII[J)I" } : Jvm.MethodName) method_22_code (7 : Nat) (Option.some Jvm.ClassFile.FieldType.int) [((0 : Nat), (14 : Nat), (17 : Nat), (25 : Nat)), ((0 : Nat), (14 : Nat), (21 : Nat), (13 : Nat)), ((0 : Nat), (14 : Nat), (25 : Nat), (15 : Nat))]) ∈ lw_all := lw_g (lw_at lw_m5 143 rfl) rfl
theorem q1189 : (Jvm.Cond.methodLink "CrateDeckLaw" (80 : Nat) ({ cls := "CrateDeck", name := "group", desc := "(IIII)I" } : Jvm.MethodName)) ∈ lw_all := lw_g (lw_at lw_m5 144 rfl) rfl
theorem q1197 : (Jvm.Cond.methodLink "CrateDeckLaw" (221 : Nat) ({ cls := "CrateDeckLaw", name := "run", desc := "(LCrateDeck;II[J)I" } : Jvm.MethodName)) ∈ lw_all := lw_g (lw_at lw_m5 152 rfl) rfl
theorem q1198 : (Jvm.Cond.static ({ cls := "CrateDeckLaw", name := "run", desc := "(LCrateDeck;II[J)I" } : Jvm.MethodName)) ∈ lw_all := lw_g (lw_at lw_m5 153 rfl) rfl
theorem q1199 : (Jvm.Cond.codeWith ({ cls := "CrateDeckLaw", name := "run", desc := "(LCrateDeck;II[J)I" } : Jvm.MethodName) method_23_code (5 : Nat) (Option.some Jvm.ClassFile.FieldType.int) [((0 : Nat), (10 : Nat), (13 : Nat), (25 : Nat)), ((0 : Nat), (10 : Nat), (17 : Nat), (15 : Nat))]) ∈ lw_all := lw_g (lw_at lw_m5 154 rfl) rfl
theorem q1200 : (Jvm.Cond.methodLink "CrateDeckLaw" (83 : Nat) ({ cls := "CrateDeck", name := "run", desc := "(II)I" } : Jvm.MethodName)) ∈ lw_all := lw_g (lw_at lw_m5 155 rfl) rfl
theorem q1233 : (Jvm.Cond.methodLink "CrateDeckLaw" (224 : Nat) ({ cls := "CrateDeckLaw", name := "give", desc := "(LCrateDeck;II[J)I" } : Jvm.MethodName)) ∈ lw_all := lw_g (lw_at lw_m5 188 rfl) rfl
theorem q1234 : (Jvm.Cond.static ({ cls := "CrateDeckLaw", name := "give", desc := "(LCrateDeck;II[J)I" } : Jvm.MethodName)) ∈ lw_all := lw_g (lw_at lw_m5 189 rfl) rfl
theorem q1235 : (Jvm.Cond.codeWith ({ cls := "CrateDeckLaw", name := "give", desc := "(LCrateDeck;II[J)I" } : Jvm.MethodName) method_24_code (5 : Nat) (Option.some Jvm.ClassFile.FieldType.int) [((0 : Nat), (10 : Nat), (13 : Nat), (25 : Nat)), ((0 : Nat), (10 : Nat), (17 : Nat), (13 : Nat))]) ∈ lw_all := lw_g (lw_at lw_m5 190 rfl) rfl
theorem q1236 : (Jvm.Cond.methodLink "CrateDeckLaw" (86 : Nat) ({ cls := "CrateDeck", name := "give", desc := "(II)I" } : Jvm.MethodName)) ∈ lw_all := lw_g (lw_at lw_m5 191 rfl) rfl
theorem q1252 : (Jvm.Cond.methodLink "CrateDeckLaw" (227 : Nat) ({ cls := "CrateDeckLaw", name := "process", desc := "(LCrateDeck;II[J)I" } : Jvm.MethodName)) ∈ lw_all := lw_g (lw_at lw_m5 207 rfl) rfl
theorem q1253 : (Jvm.Cond.static ({ cls := "CrateDeckLaw", name := "process", desc := "(LCrateDeck;II[J)I" } : Jvm.MethodName)) ∈ lw_all := lw_g (lw_at lw_m5 208 rfl) rfl
theorem q1254 : (Jvm.Cond.codeWith ({ cls := "CrateDeckLaw", name := "process", desc := "(LCrateDeck;II[J)I" } : Jvm.MethodName) method_25_code (5 : Nat) (Option.some Jvm.ClassFile.FieldType.int) [((0 : Nat), (10 : Nat), (13 : Nat), (25 : Nat)), ((0 : Nat), (10 : Nat), (17 : Nat), (13 : Nat))]) ∈ lw_all := lw_g (lw_at lw_m5 209 rfl) rfl
theorem q1255 : (Jvm.Cond.methodLink "CrateDeckLaw" (89 : Nat) ({ cls := "CrateDeck", name := "process", desc := "(II)I" } : Jvm.MethodName)) ∈ lw_all := lw_g (lw_at lw_m5 210 rfl) rfl
theorem q1271 : (Jvm.Cond.methodLink "CrateDeckLaw" (230 : Nat) ({ cls := "CrateDeckLaw", name := "groupHas", desc := "(LCrateDeck;II[J)I" } : Jvm.MethodName)) ∈ lw_all := lw_g (lw_at lw_m5 226 rfl) rfl
theorem q1272 : (Jvm.Cond.static ({ cls := "CrateDeckLaw", name := "groupHas", desc := "(LCrateDeck;II[J)I" } : Jvm.MethodName)) ∈ lw_all := lw_g (lw_at lw_m5 227 rfl) rfl
theorem q1273 : (Jvm.Cond.codeWith ({ cls := "CrateDeckLaw", name := "groupHas", desc := "(LCrateDeck;II[J)I" } : Jvm.MethodName) method_26_code (5 : Nat) (Option.some Jvm.ClassFile.FieldType.int) [((0 : Nat), (10 : Nat), (13 : Nat), (25 : Nat)), ((0 : Nat), (10 : Nat), (17 : Nat), (13 : Nat))]) ∈ lw_all := lw_g (lw_at lw_m5 228 rfl) rfl
theorem q1274 : (Jvm.Cond.methodLink "CrateDeckLaw" (92 : Nat) ({ cls := "CrateDeck", name := "groupHas", desc := "(II)I" } : Jvm.MethodName)) ∈ lw_all := lw_g (lw_at lw_m5 229 rfl) rfl
theorem q1278 : (Jvm.Cond.methodLink "CrateDeckLaw" (233 : Nat) ({ cls := "CrateDeckLaw", name := "filter", desc := "(LCrateDeck;III[J)I" } : Jvm.MethodName)) ∈ lw_all := lw_g (lw_at lw_m5 233 rfl) rfl
theorem q1279 : (Jvm.Cond.static ({ cls := "CrateDeckLaw", name := "filter", desc := "(LCrateDeck;III[J)I" } : Jvm.MethodName)) ∈ lw_all := lw_g (lw_at lw_m5 234 rfl) rfl
theorem q1280 : (Jvm.Cond.codeWith ({ cls := "CrateDeckLaw", name := "filter", desc := "(LCrateDeck;III[J)I" } : Jvm.MethodName) method_27_code (6 : Nat) (Option.some Jvm.ClassFile.FieldType.int) [((0 : Nat), (12 : Nat), (15 : Nat), (25 : Nat)), ((0 : Nat), (12 : Nat), (19 : Nat), (13 : Nat)), ((0 : Nat), (12 : Nat), (23 : Nat), (15 : Nat))]) ∈ lw_all := lw_g (lw_at lw_m5 235 rfl) rfl
theorem q1281 : (Jvm.Cond.methodLink "CrateDeckLaw" (95 : Nat) ({ cls := "CrateDeck", name := "filter", desc := "(III)I" } : Jvm.MethodName)) ∈ lw_all := lw_g (lw_at lw_m5 236 rfl) rfl
theorem q1299 : (Jvm.Cond.methodLink "CrateDeckLaw" (236 : Nat) ({ cls := "CrateDeckLaw", name := "call", desc := "(LCrateDeck;II[J)I" } : Jvm.MethodName)) ∈ lw_all := lw_g (lw_at lw_m6 14 rfl) rfl
theorem q1300 : (Jvm.Cond.static ({ cls := "CrateDeckLaw", name := "call", desc := "(LCrateDeck;II[J)I" } : Jvm.MethodName)) ∈ lw_all := lw_g (lw_at lw_m6 15 rfl) rfl
theorem q1301 : (Jvm.Cond.codeWith ({ cls := "CrateDeckLaw", name := "call", desc := "(LCrateDeck;II[J)I" } : Jvm.MethodName) method_28_code (5 : Nat) (Option.some Jvm.ClassFile.FieldType.int) [((0 : Nat), (10 : Nat), (13 : Nat), (25 : Nat)), ((0 : Nat), (10 : Nat), (17 : Nat), (13 : Nat))]) ∈ lw_all := lw_g (lw_at lw_m6 16 rfl) rfl
theorem q1302 : (Jvm.Cond.methodLink "CrateDeckLaw" (98 : Nat) ({ cls := "CrateDeck", name := "call", desc := "(II)I" } : Jvm.MethodName)) ∈ lw_all := lw_g (lw_at lw_m6 17 rfl) rfl
theorem q1314 : (Jvm.Cond.methodLink "CrateDeckLaw" (239 : Nat) ({ cls := "CrateDeckLaw", name := "connect", desc := "(LCrateDeck;II[J)I" } : Jvm.MethodName)) ∈ lw_all := lw_g (lw_at lw_m6 29 rfl) rfl
theorem q1315 : (Jvm.Cond.static ({ cls := "CrateDeckLaw", name := "connect", desc := "(LCrateDeck;II[J)I" } : Jvm.MethodName)) ∈ lw_all := lw_g (lw_at lw_m6 30 rfl) rfl
theorem q1316 : (Jvm.Cond.codeWith ({ cls := "CrateDeckLaw", name := "connect", desc := "(LCrateDeck;II[J)I" } : Jvm.MethodName) method_29_code (5 : Nat) (Option.some Jvm.ClassFile.FieldType.int) [((0 : Nat), (10 : Nat), (13 : Nat), (25 : Nat)), ((0 : Nat), (10 : Nat), (17 : Nat), (13 : Nat)), ((0 : Nat), (10 : Nat), (21 : Nat), (15 : Nat))]) ∈ lw_all := lw_g (lw_at lw_m6 31 rfl) rfl
theorem q1317 : (Jvm.Cond.methodLink "CrateDeckLaw" (101 : Nat) ({ cls := "CrateDeck", name := "connect", desc := "(II)I" } : Jvm.MethodName)) ∈ lw_all := lw_g (lw_at lw_m6 32 rfl) rfl
theorem q1325 : (Jvm.Cond.methodLink "CrateDeckLaw" (242 : Nat) ({ cls := "CrateDeckLaw", name := "disconnect", desc := "(LCrateDeck;II[J)I" } : Jvm.MethodName)) ∈ lw_all := lw_g (lw_at lw_m6 40 rfl) rfl
theorem q1326 : (Jvm.Cond.static ({ cls := "CrateDeckLaw", name := "disconnect", desc := "(LCrateDeck;II[J)I" } : Jvm.MethodName)) ∈ lw_all := lw_g (lw_at lw_m6 41 rfl) rfl
theorem q1327 : (Jvm.Cond.codeWith ({ cls := "CrateDeckLaw", name := "disconnect", desc := "(LCrateDeck;II[J)I" } : Jvm.MethodName) method_30_code (5 : Nat) (Option.some Jvm.ClassFile.FieldType.int) [((0 : Nat), (10 : Nat), (13 : Nat), (25 : Nat)), ((0 : Nat), (10 : Nat), (17 : Nat), (13 : Nat)), ((0 : Nat), (10 : Nat), (21 : Nat), (15 : Nat))]) ∈ lw_all := lw_g (lw_at lw_m6 42 rfl) rfl
theorem q1328 : (Jvm.Cond.methodLink "CrateDeckLaw" (104 : Nat) ({ cls := "CrateDeck", name := "disconnect", desc := "(II)I" } : Jvm.MethodName)) ∈ lw_all := lw_g (lw_at lw_m6 43 rfl) rfl
theorem q1332 : (Jvm.Cond.methodLink "CrateDeckLaw" (245 : Nat) ({ cls := "CrateDeckLaw", name := "find", desc := "(LCrateDeck;II[J)I" } : Jvm.MethodName)) ∈ lw_all := lw_g (lw_at lw_m6 47 rfl) rfl
theorem q1333 : (Jvm.Cond.static ({ cls := "CrateDeckLaw", name := "find", desc := "(LCrateDeck;II[J)I" } : Jvm.MethodName)) ∈ lw_all := lw_g (lw_at lw_m6 48 rfl) rfl
theorem q1334 : (Jvm.Cond.codeWith ({ cls := "CrateDeckLaw", name := "find", desc := "(LCrateDeck;II[J)I" } : Jvm.MethodName) method_31_code (5 : Nat) (Option.some Jvm.ClassFile.FieldType.int) [((0 : Nat), (10 : Nat), (13 : Nat), (25 : Nat)), ((0 : Nat), (10 : Nat), (17 : Nat), (13 : Nat))]) ∈ lw_all := lw_g (lw_at lw_m6 49 rfl) rfl
theorem q1335 : (Jvm.Cond.methodLink "CrateDeckLaw" (107 : Nat) ({ cls := "CrateDeck", name := "find", desc := "(II)I" } : Jvm.MethodName)) ∈ lw_all := lw_g (lw_at lw_m6 50 rfl) rfl
theorem q1339 : (Jvm.Cond.methodLink "CrateDeckLaw" (248 : Nat) ({ cls := "CrateDeckLaw", name := "forward", desc := "(LCrateDeck;III)I" } : Jvm.MethodName)) ∈ lw_all := lw_g (lw_at lw_m6 54 rfl) rfl
theorem q1340 : (Jvm.Cond.static ({ cls := "CrateDeckLaw", name := "forward", desc := "(LCrateDeck;III)I" } : Jvm.MethodName)) ∈ lw_all := lw_g (lw_at lw_m6 55 rfl) rfl
theorem q1341 : (Jvm.Cond.codeWith ({ cls := "CrateDeckLaw", name := "forward", desc := "(LCrateDeck;III)I" } : Jvm.MethodName) method_32_code (5 : Nat) (Option.some Jvm.ClassFile.FieldType.int) [((0 : Nat), (7 : Nat), (10 : Nat), (25 : Nat)), ((0 : Nat), (7 : Nat), (14 : Nat), (13 : Nat)), ((0 : Nat), (7 : Nat), (18 : Nat), (15 : Nat))]) ∈ lw_all := lw_g (lw_at lw_m6 56 rfl) rfl
theorem q1342 : (Jvm.Cond.methodLink "CrateDeckLaw" (110 : Nat) ({ cls := "CrateDeck", name := "forward", desc := "(III)V" } : Jvm.MethodName)) ∈ lw_all := lw_g (lw_at lw_m6 57 rfl) rfl
theorem q1364 : (Jvm.Cond.methodLink "CrateDeckLaw" (251 : Nat) ({ cls := "CrateDeckLaw", name := "leads", desc := "(LCrateDeck;I[J)I" } : Jvm.MethodName)) ∈ lw_all := lw_g (lw_at lw_m6 79 rfl) rfl
theorem q1365 : (Jvm.Cond.static ({ cls := "CrateDeckLaw", name := "leads", desc := "(LCrateDeck;I[J)I" } : Jvm.MethodName)) ∈ lw_all := lw_g (lw_at lw_m6 80 rfl) rfl
theorem q1366 : (Jvm.Cond.codeWith ({ cls := "CrateDeckLaw", name := "leads", desc := "(LCrateDeck;I[J)I" } : Jvm.MethodName) method_33_code (4 : Nat) (Option.some Jvm.ClassFile.FieldType.int) [((0 : Nat), (9 : Nat), (12 : Nat), (13 : Nat))]) ∈ lw_all := lw_g (lw_at lw_m6 81 rfl) rfl
theorem q1367 : (Jvm.Cond.methodLink "CrateDeckLaw" (113 : Nat) ({ cls := "CrateDeck", name := "leads", desc := "(I)I" } : Jvm.MethodName)) ∈ lw_all := lw_g (lw_at lw_m6 82 rfl) rfl
theorem q1371 : (Jvm.Cond.methodLink "CrateDeckLaw" (254 : Nat) ({ cls := "CrateDeckLaw", name := "build", desc := "(LCrateDeck;IIII[J)I" } : Jvm.MethodName)) ∈ lw_all := lw_g (lw_at lw_m6 86 rfl) rfl
theorem q1372 : (Jvm.Cond.static ({ cls := "CrateDeckLaw", name := "build", desc := "(LCrateDeck;IIII[J)I" } : Jvm.MethodName)) ∈ lw_all := lw_g (lw_at lw_m6 87 rfl) rfl
theorem q1373 : (Jvm.Cond.codeWith ({ cls := "CrateDeckLaw", name := "build", desc := "(LCrateDeck;IIII[J)I" } : Jvm.MethodName) method_34_code (7 : Nat) (Option.some Jvm.ClassFile.FieldType.int) [((0 : Nat), (14 : Nat), (17 : Nat), (25 : Nat)), ((0 : Nat), (14 : Nat), (21 : Nat), (13 : Nat)), ((0 : Nat), (14 : Nat), (25 : Nat), (15 : Nat))]) ∈ lw_all := lw_g (lw_at lw_m6 88 rfl) rfl
theorem q1374 : (Jvm.Cond.methodLink "CrateDeckLaw" (116 : Nat) ({ cls := "CrateDeck", name := "build", desc := "(IIII)I" } : Jvm.MethodName)) ∈ lw_all := lw_g (lw_at lw_m6 89 rfl) rfl
theorem q1427 : (Jvm.Cond.methodLink "CrateDeckLaw" (261 : Nat) ({ cls := "CrateDeckLaw", name := "push", desc := "(LCrateDeck;I[J)I" } : Jvm.MethodName)) ∈ lw_all := lw_g (lw_at lw_m6 142 rfl) rfl
theorem q1428 : (Jvm.Cond.static ({ cls := "CrateDeckLaw", name := "push", desc := "(LCrateDeck;I[J)I" } : Jvm.MethodName)) ∈ lw_all := lw_g (lw_at lw_m6 143 rfl) rfl
theorem q1429 : (Jvm.Cond.codeWith ({ cls := "CrateDeckLaw", name := "push", desc := "(LCrateDeck;I[J)I" } : Jvm.MethodName) method_35_code (4 : Nat) (Option.some Jvm.ClassFile.FieldType.int) [((0 : Nat), (9 : Nat), (12 : Nat), (25 : Nat)), ((0 : Nat), (9 : Nat), (15 : Nat), (15 : Nat))]) ∈ lw_all := lw_g (lw_at lw_m6 144 rfl) rfl
theorem q1430 : (Jvm.Cond.methodLink "CrateDeckLaw" (119 : Nat) ({ cls := "CrateDeck", name := "push", desc := "(I)I" } : Jvm.MethodName)) ∈ lw_all := lw_g (lw_at lw_m6 145 rfl) rfl
theorem q1434 : (Jvm.Cond.methodLink "CrateDeckLaw" (264 : Nat) ({ cls := "CrateDeckLaw", name := "pull", desc := "(LCrateDeck;II[J)I" } : Jvm.MethodName)) ∈ lw_all := lw_g (lw_at lw_m6 149 rfl) rfl
theorem q1435 : (Jvm.Cond.static ({ cls := "CrateDeckLaw", name := "pull", desc := "(LCrateDeck;II[J)I" } : Jvm.MethodName)) ∈ lw_all := lw_g (lw_at lw_m6 150 rfl) rfl
theorem q1436 : (Jvm.Cond.codeWith ({ cls := "CrateDeckLaw", name := "pull", desc := "(LCrateDeck;II[J)I" } : Jvm.MethodName) method_36_code (5 : Nat) (Option.some Jvm.ClassFile.FieldType.int) [((0 : Nat), (10 : Nat), (13 : Nat), (25 : Nat)), ((0 : Nat), (10 : Nat), (17 : Nat), (13 : Nat)), ((0 : Nat), (10 : Nat), (21 : Nat), (15 : Nat))]) ∈ lw_all := lw_g (lw_at lw_m6 151 rfl) rfl
theorem q1437 : (Jvm.Cond.methodLink "CrateDeckLaw" (122 : Nat) ({ cls := "CrateDeck", name := "pull", desc := "(II)I" } : Jvm.MethodName)) ∈ lw_all := lw_g (lw_at lw_m6 152 rfl) rfl
theorem q1441 : (Jvm.Cond.methodLink "CrateDeckLaw" (267 : Nat) ({ cls := "CrateDeckLaw", name := "forget", desc := "(LCrateDeck;I[J)I" } : Jvm.MethodName)) ∈ lw_all := lw_g (lw_at lw_m6 156 rfl) rfl
theorem q1442 : (Jvm.Cond.static ({ cls := "CrateDeckLaw", name := "forget", desc := "(LCrateDeck;I[J)I" } : Jvm.MethodName)) ∈ lw_all := lw_g (lw_at lw_m6 157 rfl) rfl
theorem q1443 : (Jvm.Cond.codeWith ({ cls := "CrateDeckLaw", name := "forget", desc := "(LCrateDeck;I[J)I" } : Jvm.MethodName) method_37_code (4 : Nat) (Option.some Jvm.ClassFile.FieldType.int) [((0 : Nat), (16 : Nat), (19 : Nat), (25 : Nat))]) ∈ lw_all := lw_g (lw_at lw_m6 158 rfl) rfl
theorem q1444 : (Jvm.Cond.methodLink "CrateDeckLaw" (125 : Nat) ({ cls := "CrateDeck", name := "forget", desc := "(I)Z" } : Jvm.MethodName)) ∈ lw_all := lw_g (lw_at lw_m6 159 rfl) rfl
theorem q1448 : (Jvm.Cond.methodLink "CrateDeckLaw" (283 : Nat) ({ cls := "CrateDeckLaw", name := "service", desc := "(LCrateDeck;I[J)I" } : Jvm.MethodName)) ∈ lw_all := lw_g (lw_at lw_m6 163 rfl) rfl
theorem q1449 : (Jvm.Cond.static ({ cls := "CrateDeckLaw", name := "service", desc := "(LCrateDeck;I[J)I" } : Jvm.MethodName)) ∈ lw_all := lw_g (lw_at lw_m6 164 rfl) rfl
theorem q1450 : (Jvm.Cond.codeWith ({ cls := "CrateDeckLaw", name := "service", desc := "(LCrateDeck;I[J)I" } : Jvm.MethodName) method_38_code (4 : Nat) (Option.some Jvm.ClassFile.FieldType.int) [((0 : Nat), (9 : Nat), (12 : Nat), (13 : Nat)), ((0 : Nat), (9 : Nat), (15 : Nat), (15 : Nat))]) ∈ lw_all := lw_g (lw_at lw_m6 165 rfl) rfl
theorem q1451 : (Jvm.Cond.methodLink "CrateDeckLaw" (129 : Nat) ({ cls := "CrateDeck", name := "service", desc := "(I)I" } : Jvm.MethodName)) ∈ lw_all := lw_g (lw_at lw_m6 166 rfl) rfl
theorem q1478 : (Jvm.Cond.methodLink "CrateDeckLaw" (286 : Nat) ({ cls := "CrateDeckLaw", name := "wish", desc := "(LCrateDeck;III)I" } : Jvm.MethodName)) ∈ lw_all := lw_g (lw_at lw_m6 193 rfl) rfl
theorem q1479 : (Jvm.Cond.static ({ cls := "CrateDeckLaw", name := "wish", desc := "(LCrateDeck;III)I" } : Jvm.MethodName)) ∈ lw_all := lw_g (lw_at lw_m6 194 rfl) rfl
theorem q1480 : (Jvm.Cond.codeWith ({ cls := "CrateDeckLaw", name := "wish", desc := "(LCrateDeck;III)I" } : Jvm.MethodName) method_39_code (5 : Nat) (Option.some Jvm.ClassFile.FieldType.int) [((0 : Nat), (7 : Nat), (10 : Nat), (25 : Nat)), ((0 : Nat), (7 : Nat), (14 : Nat), (13 : Nat))]) ∈ lw_all := lw_g (lw_at lw_m6 195 rfl) rfl
theorem q1481 : (Jvm.Cond.methodLink "CrateDeckLaw" (132 : Nat) ({ cls := "CrateDeck", name := "wish", desc := "(III)V" } : Jvm.MethodName)) ∈ lw_all := lw_g (lw_at lw_m6 196 rfl) rfl
theorem q1485 : (Jvm.Cond.methodLink "CrateDeckLaw" (289 : Nat) ({ cls := "CrateDeckLaw", name := "serviceHas", desc := "(LCrateDeck;II[J)I" } : Jvm.MethodName)) ∈ lw_all := lw_g (lw_at lw_m6 200 rfl) rfl
theorem q1486 : (Jvm.Cond.static ({ cls := "CrateDeckLaw", name := "serviceHas", desc := "(LCrateDeck;II[J)I" } : Jvm.MethodName)) ∈ lw_all := lw_g (lw_at lw_m6 201 rfl) rfl
theorem q1487 : (Jvm.Cond.codeWith ({ cls := "CrateDeckLaw", name := "serviceHas", desc := "(LCrateDeck;II[J)I" } : Jvm.MethodName) method_40_code (5 : Nat) (Option.some Jvm.ClassFile.FieldType.int) [((0 : Nat), (10 : Nat), (13 : Nat), (25 : Nat)), ((0 : Nat), (10 : Nat), (17 : Nat), (13 : Nat))]) ∈ lw_all := lw_g (lw_at lw_m6 202 rfl) rfl
theorem q1488 : (Jvm.Cond.methodLink "CrateDeckLaw" (135 : Nat) ({ cls := "CrateDeck", name := "serviceHas", desc := "(II)I" } : Jvm.MethodName)) ∈ lw_all := lw_g (lw_at lw_m6 203 rfl) rfl
theorem q1496 : (Jvm.Cond.methodLink "CrateDeckLaw" (292 : Nat) ({ cls := "CrateDeckLaw", name := "setHealth", desc := "(LCrateDeck;IZ)I" } : Jvm.MethodName)) ∈ lw_all := lw_g (lw_at lw_m6 211 rfl) rfl
theorem q1497 : (Jvm.Cond.static ({ cls := "CrateDeckLaw", name := "setHealth", desc := "(LCrateDeck;IZ)I" } : Jvm.MethodName)) ∈ lw_all := lw_g (lw_at lw_m6 212 rfl) rfl
theorem q1498 : (Jvm.Cond.codeWith ({ cls := "CrateDeckLaw", name := "setHealth", desc := "(LCrateDeck;IZ)I" } : Jvm.MethodName) method_41_code (4 : Nat) (Option.some Jvm.ClassFile.FieldType.int) [((0 : Nat), (6 : Nat), (9 : Nat), (25 : Nat))]) ∈ lw_all := lw_g (lw_at lw_m6 213 rfl) rfl
theorem q1499 : (Jvm.Cond.methodLink "CrateDeckLaw" (138 : Nat) ({ cls := "CrateDeck", name := "setHealth", desc := "(IZ)V" } : Jvm.MethodName)) ∈ lw_all := lw_g (lw_at lw_m6 214 rfl) rfl
theorem q1503 : (Jvm.Cond.methodLink "CrateDeckLaw" (296 : Nat) ({ cls := "CrateDeckLaw", name := "pass", desc := "(LCrateDeck;I[J)I" } : Jvm.MethodName)) ∈ lw_all := lw_g (lw_at lw_m6 218 rfl) rfl
theorem q1504 : (Jvm.Cond.static ({ cls := "CrateDeckLaw", name := "pass", desc := "(LCrateDeck;I[J)I" } : Jvm.MethodName)) ∈ lw_all := lw_g (lw_at lw_m6 219 rfl) rfl
theorem q1505 : (Jvm.Cond.codeWith ({ cls := "CrateDeckLaw", name := "pass", desc := "(LCrateDeck;I[J)I" } : Jvm.MethodName) method_42_code (4 : Nat) (Option.some Jvm.ClassFile.FieldType.int) [((0 : Nat), (9 : Nat), (12 : Nat), (13 : Nat))]) ∈ lw_all := lw_g (lw_at lw_m6 220 rfl) rfl
theorem q1506 : (Jvm.Cond.methodLink "CrateDeckLaw" (142 : Nat) ({ cls := "CrateDeck", name := "pass", desc := "(I)I" } : Jvm.MethodName)) ∈ lw_all := lw_g (lw_at lw_m6 221 rfl) rfl
theorem q1529 : (Jvm.Cond.classLink "CrateDeckLaw" (146 : Nat) "CrateDeckModel") ∈ lw_all := lw_g (lw_at lw_m7 4 rfl) rfl
theorem q1531 : (Jvm.Cond.methodLink "CrateDeckLaw" (148 : Nat) ({ cls := "CrateDeckModel", name := "<init>", desc := "()V" } : Jvm.MethodName)) ∈ lw_all := lw_g (lw_at lw_m7 6 rfl) rfl
theorem q1753 : (Jvm.Cond.methodLink "CrateDeckLaw" (155 : Nat) ({ cls := "CrateDeckModel", name := "thrown", desc := "()I" } : Jvm.MethodName)) ∈ lw_all := lw_g (lw_at lw_m7 228 rfl) rfl
theorem q1757 : (Jvm.Cond.methodLink "CrateDeckLaw" (154 : Nat) ({ cls := "CrateDeckModel", name := "entry", desc := "(III)I" } : Jvm.MethodName)) ∈ lw_all := lw_g (lw_at lw_m7 232 rfl) rfl
theorem q1771 : (Jvm.Cond.methodLink "CrateDeckLaw" (161 : Nat) ({ cls := "CrateDeckModel", name := "layer", desc := "()I" } : Jvm.MethodName)) ∈ lw_all := lw_g (lw_at lw_m8 6 rfl) rfl
theorem q1799 : (Jvm.Cond.methodLink "CrateDeckLaw" (165 : Nat) ({ cls := "CrateDeckModel", name := "image", desc := "(II)I" } : Jvm.MethodName)) ∈ lw_all := lw_g (lw_at lw_m8 34 rfl) rfl
theorem q1819 : (Jvm.Cond.methodLink "CrateDeckLaw" (168 : Nat) ({ cls := "CrateDeckModel", name := "shows", desc := "(II)I" } : Jvm.MethodName)) ∈ lw_all := lw_g (lw_at lw_m8 54 rfl) rfl
theorem q1838 : (Jvm.Cond.methodLink "CrateDeckLaw" (171 : Nat) ({ cls := "CrateDeckModel", name := "showsByAll", desc := "(II)I" } : Jvm.MethodName)) ∈ lw_all := lw_g (lw_at lw_m8 73 rfl) rfl
theorem q1843 : (Jvm.Cond.methodLink "CrateDeckLaw" (174 : Nat) ({ cls := "CrateDeckModel", name := "start", desc := "(II)I" } : Jvm.MethodName)) ∈ lw_all := lw_g (lw_at lw_m8 78 rfl) rfl
theorem q1863 : (Jvm.Cond.methodLink "CrateDeckLaw" (178 : Nat) ({ cls := "CrateDeckModel", name := "stop", desc := "(I)I" } : Jvm.MethodName)) ∈ lw_all := lw_g (lw_at lw_m8 98 rfl) rfl
theorem q1875 : (Jvm.Cond.methodLink "CrateDeckLaw" (181 : Nat) ({ cls := "CrateDeckModel", name := "container", desc := "(II)I" } : Jvm.MethodName)) ∈ lw_all := lw_g (lw_at lw_m8 110 rfl) rfl
theorem q1879 : (Jvm.Cond.methodLink "CrateDeckLaw" (184 : Nat) ({ cls := "CrateDeckModel", name := "look", desc := "(II)I" } : Jvm.MethodName)) ∈ lw_all := lw_g (lw_at lw_m8 114 rfl) rfl
theorem q1895 : (Jvm.Cond.methodLink "CrateDeckLaw" (187 : Nat) ({ cls := "CrateDeckModel", name := "write", desc := "(III)I" } : Jvm.MethodName)) ∈ lw_all := lw_g (lw_at lw_m8 130 rfl) rfl
theorem q1915 : (Jvm.Cond.methodLink "CrateDeckLaw" (191 : Nat) ({ cls := "CrateDeckModel", name := "makeFolder", desc := "(II)V" } : Jvm.MethodName)) ∈ lw_all := lw_g (lw_at lw_m8 150 rfl) rfl
theorem q1919 : (Jvm.Cond.methodLink "CrateDeckLaw" (194 : Nat) ({ cls := "CrateDeckModel", name := "remove", desc := "(II)I" } : Jvm.MethodName)) ∈ lw_all := lw_g (lw_at lw_m8 154 rfl) rfl
theorem q1931 : (Jvm.Cond.methodLink "CrateDeckLaw" (198 : Nat) ({ cls := "CrateDeckModel", name := "move", desc := "(III)V" } : Jvm.MethodName)) ∈ lw_all := lw_g (lw_at lw_m8 166 rfl) rfl
theorem q1942 : (Jvm.Cond.methodLink "CrateDeckLaw" (201 : Nat) ({ cls := "CrateDeckModel", name := "mount", desc := "(III)V" } : Jvm.MethodName)) ∈ lw_all := lw_g (lw_at lw_m8 177 rfl) rfl
theorem q1946 : (Jvm.Cond.methodLink "CrateDeckLaw" (204 : Nat) ({ cls := "CrateDeckModel", name := "commit", desc := "(I)I" } : Jvm.MethodName)) ∈ lw_all := lw_g (lw_at lw_m8 181 rfl) rfl
theorem q1954 : (Jvm.Cond.methodLink "CrateDeckLaw" (207 : Nat) ({ cls := "CrateDeckModel", name := "user", desc := "(I)I" } : Jvm.MethodName)) ∈ lw_all := lw_g (lw_at lw_m8 189 rfl) rfl
theorem q1962 : (Jvm.Cond.methodLink "CrateDeckLaw" (211 : Nat) ({ cls := "CrateDeckModel", name := "range", desc := "(IIII)I" } : Jvm.MethodName)) ∈ lw_all := lw_g (lw_at lw_m8 197 rfl) rfl
theorem q1969 : (Jvm.Cond.methodLink "CrateDeckLaw" (214 : Nat) ({ cls := "CrateDeckModel", name := "hostId", desc := "(II)I" } : Jvm.MethodName)) ∈ lw_all := lw_g (lw_at lw_m8 204 rfl) rfl
theorem q1973 : (Jvm.Cond.methodLink "CrateDeckLaw" (217 : Nat) ({ cls := "CrateDeckModel", name := "canAct", desc := "(II)Z" } : Jvm.MethodName)) ∈ lw_all := lw_g (lw_at lw_m8 208 rfl) rfl
theorem q1977 : (Jvm.Cond.methodLink "CrateDeckLaw" (220 : Nat) ({ cls := "CrateDeckModel", name := "group", desc := "(IIII)I" } : Jvm.MethodName)) ∈ lw_all := lw_g (lw_at lw_m8 212 rfl) rfl
theorem q1985 : (Jvm.Cond.methodLink "CrateDeckLaw" (223 : Nat) ({ cls := "CrateDeckModel", name := "run", desc := "(II)I" } : Jvm.MethodName)) ∈ lw_all := lw_g (lw_at lw_m8 220 rfl) rfl
theorem q1997 : (Jvm.Cond.methodLink "CrateDeckLaw" (226 : Nat) ({ cls := "CrateDeckModel", name := "give", desc := "(II)I" } : Jvm.MethodName)) ∈ lw_all := lw_g (lw_at lw_m8 232 rfl) rfl
theorem q2005 : (Jvm.Cond.methodLink "CrateDeckLaw" (229 : Nat) ({ cls := "CrateDeckModel", name := "process", desc := "(II)I" } : Jvm.MethodName)) ∈ lw_all := lw_g (lw_at lw_m9 0 rfl) rfl
theorem q2021 : (Jvm.Cond.methodLink "CrateDeckLaw" (232 : Nat) ({ cls := "CrateDeckModel", name := "groupHas", desc := "(II)I" } : Jvm.MethodName)) ∈ lw_all := lw_g (lw_at lw_m9 16 rfl) rfl
theorem q2025 : (Jvm.Cond.methodLink "CrateDeckLaw" (235 : Nat) ({ cls := "CrateDeckModel", name := "filter", desc := "(III)I" } : Jvm.MethodName)) ∈ lw_all := lw_g (lw_at lw_m9 20 rfl) rfl
theorem q2030 : (Jvm.Cond.methodLink "CrateDeckLaw" (238 : Nat) ({ cls := "CrateDeckModel", name := "call", desc := "(II)I" } : Jvm.MethodName)) ∈ lw_all := lw_g (lw_at lw_m9 25 rfl) rfl
theorem q2034 : (Jvm.Cond.methodLink "CrateDeckLaw" (241 : Nat) ({ cls := "CrateDeckModel", name := "connect", desc := "(II)I" } : Jvm.MethodName)) ∈ lw_all := lw_g (lw_at lw_m9 29 rfl) rfl
theorem q2038 : (Jvm.Cond.methodLink "CrateDeckLaw" (244 : Nat) ({ cls := "CrateDeckModel", name := "disconnect", desc := "(II)I" } : Jvm.MethodName)) ∈ lw_all := lw_g (lw_at lw_m9 33 rfl) rfl
theorem q2042 : (Jvm.Cond.methodLink "CrateDeckLaw" (247 : Nat) ({ cls := "CrateDeckModel", name := "find", desc := "(II)I" } : Jvm.MethodName)) ∈ lw_all := lw_g (lw_at lw_m9 37 rfl) rfl
theorem q2046 : (Jvm.Cond.methodLink "CrateDeckLaw" (250 : Nat) ({ cls := "CrateDeckModel", name := "forward", desc := "(III)V" } : Jvm.MethodName)) ∈ lw_all := lw_g (lw_at lw_m9 41 rfl) rfl
theorem q2054 : (Jvm.Cond.methodLink "CrateDeckLaw" (253 : Nat) ({ cls := "CrateDeckModel", name := "leads", desc := "(I)I" } : Jvm.MethodName)) ∈ lw_all := lw_g (lw_at lw_m9 49 rfl) rfl
theorem q2058 : (Jvm.Cond.methodLink "CrateDeckLaw" (256 : Nat) ({ cls := "CrateDeckModel", name := "build", desc := "(IIII)I" } : Jvm.MethodName)) ∈ lw_all := lw_g (lw_at lw_m9 53 rfl) rfl
theorem q2062 : (Jvm.Cond.methodLink "CrateDeckLaw" (260 : Nat) ({ cls := "CrateDeckModel", name := "hits", desc := "()I" } : Jvm.MethodName)) ∈ lw_all := lw_g (lw_at lw_m9 57 rfl) rfl
theorem q2066 : (Jvm.Cond.methodLink "CrateDeckLaw" (263 : Nat) ({ cls := "CrateDeckModel", name := "push", desc := "(I)I" } : Jvm.MethodName)) ∈ lw_all := lw_g (lw_at lw_m9 61 rfl) rfl
theorem q2073 : (Jvm.Cond.methodLink "CrateDeckLaw" (266 : Nat) ({ cls := "CrateDeckModel", name := "pull", desc := "(II)I" } : Jvm.MethodName)) ∈ lw_all := lw_g (lw_at lw_m9 68 rfl) rfl
theorem q2077 : (Jvm.Cond.methodLink "CrateDeckLaw" (269 : Nat) ({ cls := "CrateDeckModel", name := "forget", desc := "(I)Z" } : Jvm.MethodName)) ∈ lw_all := lw_g (lw_at lw_m9 72 rfl) rfl
theorem q2081 : (Jvm.Cond.methodLink "CrateDeckLaw" (273 : Nat) ({ cls := "CrateDeckModel", name := "sweep", desc := "()I" } : Jvm.MethodName)) ∈ lw_all := lw_g (lw_at lw_m9 76 rfl) rfl
theorem q2085 : (Jvm.Cond.methodLink "CrateDeckLaw" (277 : Nat) ({ cls := "CrateDeckModel", name := "dropLayers", desc := "()I" } : Jvm.MethodName)) ∈ lw_all := lw_g (lw_at lw_m9 80 rfl) rfl
theorem q2089 : (Jvm.Cond.methodLink "CrateDeckLaw" (282 : Nat) ({ cls := "CrateDeckModel", name := "layers", desc := "(Z)I" } : Jvm.MethodName)) ∈ lw_all := lw_g (lw_at lw_m9 84 rfl) rfl
theorem q2093 : (Jvm.Cond.methodLink "CrateDeckLaw" (285 : Nat) ({ cls := "CrateDeckModel", name := "service", desc := "(I)I" } : Jvm.MethodName)) ∈ lw_all := lw_g (lw_at lw_m9 88 rfl) rfl
theorem q2097 : (Jvm.Cond.methodLink "CrateDeckLaw" (288 : Nat) ({ cls := "CrateDeckModel", name := "wish", desc := "(III)V" } : Jvm.MethodName)) ∈ lw_all := lw_g (lw_at lw_m9 92 rfl) rfl
theorem q2101 : (Jvm.Cond.methodLink "CrateDeckLaw" (291 : Nat) ({ cls := "CrateDeckModel", name := "serviceHas", desc := "(II)I" } : Jvm.MethodName)) ∈ lw_all := lw_g (lw_at lw_m9 96 rfl) rfl
theorem q2109 : (Jvm.Cond.methodLink "CrateDeckLaw" (295 : Nat) ({ cls := "CrateDeckModel", name := "setHealth", desc := "(IZ)V" } : Jvm.MethodName)) ∈ lw_all := lw_g (lw_at lw_m9 104 rfl) rfl
theorem q2113 : (Jvm.Cond.methodLink "CrateDeckLaw" (298 : Nat) ({ cls := "CrateDeckModel", name := "pass", desc := "(I)I" } : Jvm.MethodName)) ∈ lw_all := lw_g (lw_at lw_m9 108 rfl) rfl

set_option maxRecDepth 100000
def w_J4_max_10 (t0 : Int32) (K : Int32 → Prop) : Prop :=
 K t0
def w_J4_max_0 (x0 : Int32) (x1 : Int32) (K : Int32 → Prop) : Prop :=
 (x0 < x1 → (w_J4_max_10 x1 K)) ∧
 (¬ (x0 < x1) → (w_J4_max_10 x0 K))
def w_J4_min_10 (t0 : Int32) (K : Int32 → Prop) : Prop :=
 K t0
def w_J4_min_0 (x0 : Int32) (x1 : Int32) (K : Int32 → Prop) : Prop :=
 (x1 < x0 → (w_J4_min_10 x1 K)) ∧
 (¬ (x1 < x0) → (w_J4_min_10 x0 K))
def w_J3_newLength_21 (K : Int32 → Prop) : Prop :=
 False
def w_J3_newLength_0 (x0 : Int32) (x1 : Int32) (x2 : Int32) (K : Int32 → Prop) : Prop :=
 w_J4_max_0 x1 x2 fun g3 => (∀ y7 : Int32, y7 = (x0 + g3) → ((y7 ≤ 0 → (w_J3_newLength_21 K)) ∧
 (¬ (y7 ≤ 0) → ((2147483639 < y7 → (w_J3_newLength_21 K)) ∧
 (¬ (2147483639 < y7) → (K y7))))))
def w_J0_init_0 (σ : zSt) (v0 : Nat) (K : Prop) : Prop :=
 K
def w_J1_init_0 (σ : zSt) (v0 : Nat) (K : zSt → Prop) : Prop :=
 w_J0_init_0 σ v0 (zpf σ v0 15 0 (.int 0) fun σ6 => (K σ6))
def w_J11_checkIndex_9 (σ : zSt) (K : Int32 → Prop) : Prop :=
 False
def w_J11_checkIndex_0 (σ : zSt) (x0 : Int32) (x1 : Int32) (K : Int32 → Prop) : Prop :=
 (x0 < 0 → (w_J11_checkIndex_9 σ K)) ∧
 (¬ (x0 < 0) → ((x0 < x1 → (K x0)) ∧
 (¬ (x0 < x1) → (w_J11_checkIndex_9 σ K))))
def w_J10_checkIndex_0 (σ : zSt) (x0 : Int32) (x1 : Int32) (K : Int32 → Prop) : Prop :=
 w_J11_checkIndex_0 σ x0 x1 fun g3 => (K g3)
def w_J19_equals_10 (σ : zSt) (t0 : Int32) (K : Int32 → Prop) : Prop :=
 (t0 = 0 ∨ t0 = 1) ∧ K t0
def w_J19_equals_0 (σ : zSt) (v0 : Nat) (v1 : Nat) (K : Int32 → Prop) : Prop :=
 (¬ ((some v0) = (some v1)) → (w_J19_equals_10 σ 0 K)) ∧
 ((some v0) = (some v1) → (w_J19_equals_10 σ 1 K))
def w_J18_intValue_0 (σ : zSt) (v0 : Nat) (K : Int32 → Prop) : Prop :=
 zgV σ v0 fun g1 => (K g1)
def w_J18_bitCount_0 (x0 : Int32) (K : Int32 → Prop) : Prop :=
 ∀ y9 : Int32, y9 = (x0 - (((x0).toUInt32 >>> ((1 : Int32).toUInt32 &&& Int32.toUInt32 31)).toInt32 &&& 1431655765)) → (∀ y23 : Int32, y23 = ((y9 &&& 858993459) + (((y9).toUInt32 >>> ((2 : Int32).toUInt32 &&& Int32.toUInt32 31)).toInt32 &&& 858993459)) → (∀ y33 : Int32, y33 = ((y23 + ((y23).toUInt32 >>> ((4 : Int32).toUInt32 &&& Int32.toUInt32 31)).toInt32) &&& 252645135) → (∀ y40 : Int32, y40 = (y33 + ((y33).toUInt32 >>> ((8 : Int32).toUInt32 &&& Int32.toUInt32 31)).toInt32) → (∀ y47 : Int32, y47 = (y40 + ((y40).toUInt32 >>> ((16 : Int32).toUInt32 &&& Int32.toUInt32 31)).toInt32) → (K (y47 &&& 63))))))
def w_J18_valueOf_23 (σ : zSt) (K : Nat → Prop) : Prop :=
 False
def w_J18_valueOf_0 (σ : zSt) (x0 : Int32) (K : Nat → Prop) : Prop :=
 (x0 < (-128) → (w_J18_valueOf_23 σ K)) ∧
 (¬ (x0 < (-128)) → ((127 < x0 → (w_J18_valueOf_23 σ K)) ∧
 (¬ (127 < x0) → (zch σ (x0 + 128) fun r21 => (K r21)))))
def w_J5_copyOf_2_0 (σ : zSt) (v0 : Nat) (x1 : Int32) (v2 : Nat) (K : Nat → zSt → Prop) : Prop :=
 (¬ ((some v2) = (some (σ.1 259))) → False) ∧
 ((some v2) = (some (σ.1 259)) → (znwr σ 1 x1 92 fun q7 σ7 => (zln σ7 v0 fun g30 => (w_J4_min_0 g30 x1 fun g32 => (zac σ7 v0 0 q7 0 g32 fun σ35 => (K q7 σ35))))))
def w_J5_copyOf_0 (σ : zSt) (v0 : Nat) (x1 : Int32) (K : Nat → zSt → Prop) : Prop :=
 zoa σ v0 ∧ (w_J5_copyOf_2_0 σ v0 x1 (σ.1 259) fun a6 σ6 => (K a6 σ6))
def w_J2_size_0 (σ : zSt) (v0 : Nat) (K : Int32 → Prop) : Prop :=
 zgI σ v0 15 2 fun g1 => (K g1)
def w_J2_elementData_0 (σ : zSt) (v0 : Nat) (x1 : Int32) (K : Nat → Prop) : Prop :=
 zgR σ v0 15 1 fun a1 => (zaR σ a1 1 x1 fun r5 => (K r5))
def w_J2_get_0 (σ : zSt) (v0 : Nat) (x1 : Int32) (K : Nat → Prop) : Prop :=
 zgI σ v0 15 2 fun g2 => (w_J10_checkIndex_0 σ x1 g2 fun g5 => (zrc σ v0 15 ∧ (w_J2_elementData_0 σ v0 x1 fun a11 => (K a11))))
def w_J2_grow_2_20 (σ : zSt) (v0 : Nat) (x1 : Int32) (x2 : Int32) (K : Nat → zSt → Prop) : Prop :=
 w_J3_newLength_0 x2 (x1 - x2) (x2 >>> (1 &&& 31)) fun g27 => (zgR σ v0 15 1 fun a33 => (w_J5_copyOf_0 σ a33 g27 fun a37 σ37 => (zpf σ37 v0 15 1 (.ref a37) fun σ41 => (K a37 σ41))))
def w_J2_grow_2_0 (σ : zSt) (v0 : Nat) (x1 : Int32) (K : Nat → zSt → Prop) : Prop :=
 zgR σ v0 15 1 fun a1 => (zln σ a1 fun g4 => ((0 < g4 → (w_J2_grow_2_20 σ v0 x1 g4 K)) ∧
 (¬ (0 < g4) → (zgR σ v0 15 1 fun a11 => (((some a11) = (some (σ.1 256)) → (w_J4_max_0 10 x1 fun g49 => (znwr σ 1 g49 92 fun q52 σ52 => (zpf σ52 v0 15 1 (.ref q52) fun σ56 => (K q52 σ56))))) ∧
 (¬ ((some a11) = (some (σ.1 256))) → (w_J2_grow_2_20 σ v0 x1 g4 K)))))))
def w_J2_grow_0 (σ : zSt) (v0 : Nat) (K : Nat → zSt → Prop) : Prop :=
 zgI σ v0 15 2 fun g2 => (zrc σ v0 15 ∧ (w_J2_grow_2_0 σ v0 (g2 + 1) fun a7 σ7 => (K a7 σ7)))
def w_J2_add_2_11 (σ : zSt) (v0 : Nat) (v1 : Nat) (v2 : Nat) (x3 : Int32) (K : zSt → Prop) : Prop :=
 zas σ v2 1 x3 (some v1) fun σ14 => (zpf σ14 v0 15 2 (.int (x3 + 1)) fun σ19 => (K σ19))
def w_J2_add_2_0 (σ : zSt) (v0 : Nat) (v1 : Nat) (v2 : Nat) (x3 : Int32) (K : zSt → Prop) : Prop :=
 zln σ v2 fun g2 => ((¬ (x3 = g2) → (w_J2_add_2_11 σ v0 v1 v2 x3 K)) ∧
 (x3 = g2 → (zrc σ v0 15 ∧ (w_J2_grow_0 σ v0 fun a7 σ7 => (w_J2_add_2_11 σ7 v0 v1 a7 x3 K)))))
def w_J2_add_0 (σ : zSt) (v0 : Nat) (v1 : Nat) (K : Int32 → zSt → Prop) : Prop :=
 zgI σ v0 15 0 fun g2 => (zpf σ v0 15 0 (.int (g2 + 1)) fun σ7 => (zgR σ7 v0 15 1 fun a13 => (zgI σ7 v0 15 2 fun g17 => (zrc σ7 v0 15 ∧ (w_J2_add_2_0 σ7 v0 v1 a13 g17 fun σ20 => (K 1 σ20))))))
def w_J2_fastRemove_34 (σ : zSt) (v0 : Nat) (v1 : Nat) (x3 : Int32) (K : zSt → Prop) : Prop :=
 zpf σ v0 15 2 (.int x3) fun σ38 => (zas σ38 v1 1 x3 none fun σ42 => (K σ42))
def w_J2_fastRemove_0 (σ : zSt) (v0 : Nat) (v1 : Nat) (x2 : Int32) (K : zSt → Prop) : Prop :=
 zgI σ v0 15 0 fun g2 => (zpf σ v0 15 0 (.int (g2 + 1)) fun σ7 => (zgI σ7 v0 15 2 fun g11 => (∀ y17 : Int32, y17 = (g11 - 1) → (((g11 - 1) ≤ x2 → (w_J2_fastRemove_34 σ7 v0 v1 y17 K)) ∧
 (¬ ((g11 - 1) ≤ x2) → (zac σ7 v1 (x2 + 1) v1 x2 (y17 - x2) fun σ31 => (w_J2_fastRemove_34 σ31 v0 v1 y17 K)))))))
def w_J2_remove_0 (σ : zSt) (v0 : Nat) (x1 : Int32) (K : Nat → zSt → Prop) : Prop :=
 zgI σ v0 15 2 fun g2 => (w_J10_checkIndex_0 σ x1 g2 fun g5 => (zgR σ v0 15 1 fun a10 => (zaR σ a10 1 x1 fun r16 => (zrc σ v0 15 ∧ (w_J2_fastRemove_0 σ v0 a10 x1 fun σ21 => (K r16 σ21))))))
def w_J2_toArray_0 (σ : zSt) (v0 : Nat) (K : Nat → zSt → Prop) : Prop :=
 zgR σ v0 15 1 fun a1 => (zgI σ v0 15 2 fun g5 => (w_J5_copyOf_0 σ a1 g5 fun a8 σ8 => (K a8 σ8)))
def w_J2_clear_27 (σ : zSt) (v1 : Nat) (x2 : Int32) (x3 : Int32) (K : zSt → Prop) (J27 : zSt → Nat → Int32 → Int32 → Prop) : Prop :=
 (x2 ≤ x3 → (K σ)) ∧
 (¬ (x2 ≤ x3) → (zas σ v1 1 x3 none fun σ35 => (∀ y36 : Int32, y36 = (x3 + 1) → (J27 σ35 v1 x2 y36))))
def w_J2_clear_0 (σ : zSt) (v0 : Nat) (K : zSt → Prop) (J27 : zSt → Nat → Int32 → Int32 → Prop) : Prop :=
 zgI σ v0 15 0 fun g2 => (zpf σ v0 15 0 (.int (g2 + 1)) fun σ7 => (zgR σ7 v0 15 1 fun a11 => (zgI σ7 v0 15 2 fun g16 => (zpf σ7 v0 15 2 (.int 0) fun σ23 => (J27 σ23 a11 g16 0)))))
def w_J2_init_0 (σ : zSt) (v0 : Nat) (K : zSt → Prop) : Prop :=
 w_J1_init_0 σ v0 fun σ1 => (zpf σ1 v0 15 1 (.ref (σ1.1 256)) fun σ8 => (K σ8))

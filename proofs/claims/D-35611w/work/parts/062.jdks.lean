set_option maxRecDepth 100000
theorem yd_J4_max : yJ4_max.cls ≠ "java/lang/invoke/MethodHandle" ∧ yJ4_max.cls ≠ "java/lang/invoke/VarHandle" ∧ (parseMethodDescriptor yJ4_max.desc).map (fun d => d.parameters.length) = some 2 := by decide +kernel
theorem yd_J0_init : yJ0_init.cls ≠ "java/lang/invoke/MethodHandle" ∧ yJ0_init.cls ≠ "java/lang/invoke/VarHandle" ∧ (parseMethodDescriptor yJ0_init.desc).map (fun d => d.parameters.length) = some 0 := by decide +kernel
theorem yd_J11_checkIndex : yJ11_checkIndex.cls ≠ "java/lang/invoke/MethodHandle" ∧ yJ11_checkIndex.cls ≠ "java/lang/invoke/VarHandle" ∧ (parseMethodDescriptor yJ11_checkIndex.desc).map (fun d => d.parameters.length) = some 3 := by decide +kernel
theorem yd_J4_min : yJ4_min.cls ≠ "java/lang/invoke/MethodHandle" ∧ yJ4_min.cls ≠ "java/lang/invoke/VarHandle" ∧ (parseMethodDescriptor yJ4_min.desc).map (fun d => d.parameters.length) = some 2 := by decide +kernel
theorem yd_J5_copyOf_2 : yJ5_copyOf_2.cls ≠ "java/lang/invoke/MethodHandle" ∧ yJ5_copyOf_2.cls ≠ "java/lang/invoke/VarHandle" ∧ (parseMethodDescriptor yJ5_copyOf_2.desc).map (fun d => d.parameters.length) = some 3 := by decide +kernel
theorem yd_J10_checkIndex : yJ10_checkIndex.cls ≠ "java/lang/invoke/MethodHandle" ∧ yJ10_checkIndex.cls ≠ "java/lang/invoke/VarHandle" ∧ (parseMethodDescriptor yJ10_checkIndex.desc).map (fun d => d.parameters.length) = some 2 := by decide +kernel
theorem yd_J2_elementData : yJ2_elementData.cls ≠ "java/lang/invoke/MethodHandle" ∧ yJ2_elementData.cls ≠ "java/lang/invoke/VarHandle" ∧ (parseMethodDescriptor yJ2_elementData.desc).map (fun d => d.parameters.length) = some 1 := by decide +kernel
theorem yd_J3_newLength : yJ3_newLength.cls ≠ "java/lang/invoke/MethodHandle" ∧ yJ3_newLength.cls ≠ "java/lang/invoke/VarHandle" ∧ (parseMethodDescriptor yJ3_newLength.desc).map (fun d => d.parameters.length) = some 3 := by decide +kernel
theorem yd_J5_copyOf : yJ5_copyOf.cls ≠ "java/lang/invoke/MethodHandle" ∧ yJ5_copyOf.cls ≠ "java/lang/invoke/VarHandle" ∧ (parseMethodDescriptor yJ5_copyOf.desc).map (fun d => d.parameters.length) = some 2 := by decide +kernel
theorem yd_J2_grow_2 : yJ2_grow_2.cls ≠ "java/lang/invoke/MethodHandle" ∧ yJ2_grow_2.cls ≠ "java/lang/invoke/VarHandle" ∧ (parseMethodDescriptor yJ2_grow_2.desc).map (fun d => d.parameters.length) = some 1 := by decide +kernel
theorem yd_J2_grow : yJ2_grow.cls ≠ "java/lang/invoke/MethodHandle" ∧ yJ2_grow.cls ≠ "java/lang/invoke/VarHandle" ∧ (parseMethodDescriptor yJ2_grow.desc).map (fun d => d.parameters.length) = some 0 := by decide +kernel
theorem yd_J2_add_2 : yJ2_add_2.cls ≠ "java/lang/invoke/MethodHandle" ∧ yJ2_add_2.cls ≠ "java/lang/invoke/VarHandle" ∧ (parseMethodDescriptor yJ2_add_2.desc).map (fun d => d.parameters.length) = some 3 := by decide +kernel
theorem yd_J2_fastRemove : yJ2_fastRemove.cls ≠ "java/lang/invoke/MethodHandle" ∧ yJ2_fastRemove.cls ≠ "java/lang/invoke/VarHandle" ∧ (parseMethodDescriptor yJ2_fastRemove.desc).map (fun d => d.parameters.length) = some 2 := by decide +kernel
theorem yd_J1_init : yJ1_init.cls ≠ "java/lang/invoke/MethodHandle" ∧ yJ1_init.cls ≠ "java/lang/invoke/VarHandle" ∧ (parseMethodDescriptor yJ1_init.desc).map (fun d => d.parameters.length) = some 0 := by decide +kernel
set_option maxHeartbeats 2000000 in
theorem s_J4_max_10 {X : zX} {A : Nat → Prop} {G : zG} {Om : Heap → Prop} {t0 : Int32} {K : Int32 → Prop} (cx : Cx X cJ4_max 2 RJ4 (some .int) 0 0 0 0 A G) (ex : zGoal X (zqI Om K) zxN A 0 0) (hno : ∀ x ∈ (zC X).exceptionTable.toList, False)
    (h : w_J4_max_10 t0 K) : Z X 2 A Om 0 0 10 [] [.int t0] := by
  unfold w_J4_max_10 at h
  exact z_iret cx ex dJ4_max_10 (fun H hO => ⟨_, rfl, h, hO⟩) (Nat.le_of_ble_eq_true rfl) (Nat.le_of_ble_eq_true rfl)
set_option maxHeartbeats 2000000 in
theorem s_J4_max_0 {X : zX} {A : Nat → Prop} {G : zG} {Om : Heap → Prop} {x0 : Int32} {x1 : Int32} {K : Int32 → Prop} (cx : Cx X cJ4_max 2 RJ4 (some .int) 0 0 0 0 A G) (ex : zGoal X (zqI Om K) zxN A 0 0) (hno : ∀ x ∈ (zC X).exceptionTable.toList, False)
    (h : w_J4_max_0 x0 x1 K) : Z X 2 A Om 0 0 0 [(0, .int x0), (1, .int x1)] [] := by
  unfold w_J4_max_0 at h
  refine z_iload_n cx dJ4_max_0 rfl 0 rfl ?_
  refine z_iload_n cx dJ4_max_1 rfl 1 rfl ?_
  refine z_icmp_lt cx 9 dJ4_max_2 (by decide) (fun hc => ?_) (fun hc => ?_)
  · have h := h.1 hc
    refine z_iload_n cx dJ4_max_9 rfl 1 rfl ?_
    refine Z.sub (lv2 := []) [] rfl ?_
    exact s_J4_max_10 cx ex hno h
  · have h := h.2 hc
    refine z_iload_n cx dJ4_max_5 rfl 0 rfl ?_
    refine z_goto cx 10 dJ4_max_6 (by decide) ?_
    refine Z.sub (lv2 := []) [] rfl ?_
    exact s_J4_max_10 cx ex hno h
set_option maxHeartbeats 2000000 in
theorem c_J4_max {l : Launch} (hl : l.stackTraces = false) {A : Nat → Prop} {G : zG} {Om : Heap → Prop} {x0 : Int32} {x1 : Int32} {K : Int32 → Prop}  (h : w_J4_max_0 x0 x1 K) : Con l yJ4_max cJ4_max 2 (some .int) 0 0 0 0 A G [.int x0, .int x1] Om (zqI Om K) zxN :=
  Con.of hl (by decide +kernel) (Nat.le_of_ble_eq_true rfl) [(0, .int x0), (1, .int x1)] rfl rfl (fun X cx hmn hno ex => by
    exact s_J4_max_0 cx ex hno h)
set_option maxHeartbeats 2000000 in
theorem s_J4_min_10 {X : zX} {A : Nat → Prop} {G : zG} {Om : Heap → Prop} {t0 : Int32} {K : Int32 → Prop} (cx : Cx X cJ4_min 2 RJ4 (some .int) 0 0 0 0 A G) (ex : zGoal X (zqI Om K) zxN A 0 0) (hno : ∀ x ∈ (zC X).exceptionTable.toList, False)
    (h : w_J4_min_10 t0 K) : Z X 2 A Om 0 0 10 [] [.int t0] := by
  unfold w_J4_min_10 at h
  exact z_iret cx ex dJ4_min_10 (fun H hO => ⟨_, rfl, h, hO⟩) (Nat.le_of_ble_eq_true rfl) (Nat.le_of_ble_eq_true rfl)
set_option maxHeartbeats 2000000 in
theorem s_J4_min_0 {X : zX} {A : Nat → Prop} {G : zG} {Om : Heap → Prop} {x0 : Int32} {x1 : Int32} {K : Int32 → Prop} (cx : Cx X cJ4_min 2 RJ4 (some .int) 0 0 0 0 A G) (ex : zGoal X (zqI Om K) zxN A 0 0) (hno : ∀ x ∈ (zC X).exceptionTable.toList, False)
    (h : w_J4_min_0 x0 x1 K) : Z X 2 A Om 0 0 0 [(0, .int x0), (1, .int x1)] [] := by
  unfold w_J4_min_0 at h
  refine z_iload_n cx dJ4_min_0 rfl 0 rfl ?_
  refine z_iload_n cx dJ4_min_1 rfl 1 rfl ?_
  refine z_icmp_gt cx 9 dJ4_min_2 (by decide) (fun hc => ?_) (fun hc => ?_)
  · have h := h.1 hc
    refine z_iload_n cx dJ4_min_9 rfl 1 rfl ?_
    refine Z.sub (lv2 := []) [] rfl ?_
    exact s_J4_min_10 cx ex hno h
  · have h := h.2 hc
    refine z_iload_n cx dJ4_min_5 rfl 0 rfl ?_
    refine z_goto cx 10 dJ4_min_6 (by decide) ?_
    refine Z.sub (lv2 := []) [] rfl ?_
    exact s_J4_min_10 cx ex hno h
set_option maxHeartbeats 2000000 in
theorem c_J4_min {l : Launch} (hl : l.stackTraces = false) {A : Nat → Prop} {G : zG} {Om : Heap → Prop} {x0 : Int32} {x1 : Int32} {K : Int32 → Prop}  (h : w_J4_min_0 x0 x1 K) : Con l yJ4_min cJ4_min 2 (some .int) 0 0 0 0 A G [.int x0, .int x1] Om (zqI Om K) zxN :=
  Con.of hl (by decide +kernel) (Nat.le_of_ble_eq_true rfl) [(0, .int x0), (1, .int x1)] rfl rfl (fun X cx hmn hno ex => by
    exact s_J4_min_0 cx ex hno h)
set_option maxHeartbeats 2000000 in
theorem s_J3_newLength_21 {X : zX} {A : Nat → Prop} {G : zG} {Om : Heap → Prop}  {K : Int32 → Prop} (cx : Cx X cJ3_newLength 4 RJ3 (some .int) 1 21 0 0 A G) (ex : zGoal X (zqI Om K) zxN A 0 0) (hno : ∀ x ∈ (zC X).exceptionTable.toList, False)
    (h : w_J3_newLength_21 K) : Z X 4 A Om 0 0 21 [] [] := by
  unfold w_J3_newLength_21 at h
  exact h.elim
set_option maxHeartbeats 2000000 in
theorem s_J3_newLength_0 {X : zX} {A : Nat → Prop} {G : zG} {Om : Heap → Prop} {x0 : Int32} {x1 : Int32} {x2 : Int32} {K : Int32 → Prop} (cx : Cx X cJ3_newLength 4 RJ3 (some .int) 1 21 0 0 A G) (ex : zGoal X (zqI Om K) zxN A 0 0) (hno : ∀ x ∈ (zC X).exceptionTable.toList, False)
    (h : w_J3_newLength_0 x0 x1 x2 K) : Z X 4 A Om 0 0 0 [(0, .int x0), (1, .int x1), (2, .int x2)] [] := by
  unfold w_J3_newLength_0 at h
  refine z_iload_n cx dJ3_newLength_0 rfl 0 rfl ?_
  refine z_iload_n cx dJ3_newLength_1 rfl 1 rfl ?_
  refine z_iload_n cx dJ3_newLength_2 rfl 2 rfl ?_
  refine z_callS (rest := [.int _]) cx (c_J4_max cx.quiet h) q226 q227 q94 q228 rfl yd_J4_max (Nat.le_of_ble_eq_true rfl) (Nat.le_of_ble_eq_true rfl) (Nat.le_of_ble_eq_true rfl) (Nat.le_of_ble_eq_true rfl) (Nat.le_of_ble_eq_true rfl) dJ3_newLength_3 rfl zx_none (zo_qI fun g3 h => ?_)
  refine z_iadd cx dJ3_newLength_6 ?_
  have h := h _ rfl
  refine z_istore_n (lv2 := [(0, _), (1, _), (2, _), (3, _)]) cx dJ3_newLength_7 rfl (by decide) rfl ?_
  refine z_iconst (v := 0) cx dJ3_newLength_8 rfl ?_
  refine z_iload_n cx dJ3_newLength_9 rfl 3 rfl ?_
  refine z_icmp_ge cx 21 dJ3_newLength_10 (by decide) (fun hc => ?_) (fun hc => ?_)
  · have h := h.1 hc
    refine Z.sub (lv2 := []) [] rfl ?_
    exact s_J3_newLength_21 cx ex hno h
  · have h := h.2 hc
    refine z_iload_n cx dJ3_newLength_13 rfl 3 rfl ?_
    refine z_ldc cx q229 dJ3_newLength_14 ?_
    refine z_icmp_gt cx 21 dJ3_newLength_16 (by decide) (fun hc => ?_) (fun hc => ?_)
    · have h := h.1 hc
      refine Z.sub (lv2 := []) [] rfl ?_
      exact s_J3_newLength_21 cx ex hno h
    · have h := h.2 hc
      refine z_iload_n cx dJ3_newLength_19 rfl 3 rfl ?_
      exact z_iret cx ex dJ3_newLength_20 (fun H hO => ⟨_, rfl, h, hO⟩) (Nat.le_of_ble_eq_true rfl) (Nat.le_of_ble_eq_true rfl)
set_option maxHeartbeats 2000000 in
theorem c_J3_newLength {l : Launch} (hl : l.stackTraces = false) {A : Nat → Prop} {G : zG} {Om : Heap → Prop} {x0 : Int32} {x1 : Int32} {x2 : Int32} {K : Int32 → Prop}  (h : w_J3_newLength_0 x0 x1 x2 K) : Con l yJ3_newLength cJ3_newLength 4 (some .int) 1 21 0 0 A G [.int x0, .int x1, .int x2] Om (zqI Om K) zxN :=
  Con.of hl (by decide +kernel) (Nat.le_of_ble_eq_true rfl) [(0, .int x0), (1, .int x1), (2, .int x2)] rfl rfl (fun X cx hmn hno ex => by
    exact s_J3_newLength_0 cx ex hno h)
set_option maxHeartbeats 2000000 in
theorem s_J0_init_0 {X : zX} {A : Nat → Prop} {G : zG} {σ : zSt} {v0 : Nat} {K : Prop} (cx : Cx X cJ0_init 1 RJ0 none 1 12 0 0 A G) (ex : zGoal X (zqV (WC G A σ) K) zxN A 0 0) (hno : ∀ x ∈ (zC X).exceptionTable.toList, False) (hmn : (zMe X).name = "<init>")
    (h : w_J0_init_0 σ v0 K) : Z X 1 A (WC G A σ) 0 0 0 [(0, .ref v0)] [] := by
  unfold w_J0_init_0 at h
  refine z_aload_n cx dJ0_init_0 rfl 0 rfl ?_
  refine z_objInit (rest := []) cx q148 q129 q130 dJ0_init_1 (Nat.le_of_ble_eq_true rfl) (Nat.le_of_ble_eq_true rfl) ?_
  exact z_vret cx ex dJ0_init_4 (fun H hO => ⟨rfl, h, hO⟩) (Nat.le_of_ble_eq_true rfl) (Nat.le_of_ble_eq_true rfl)
set_option maxHeartbeats 2000000 in
theorem c_J0_init {l : Launch} (hl : l.stackTraces = false) {A : Nat → Prop} {G : zG} {σ : zSt} {v0 : Nat} {K : Prop}  (h : w_J0_init_0 σ v0 K) : Con l yJ0_init cJ0_init 1 none 1 12 0 0 A G [.ref v0] (WC G A σ) (zqV (WC G A σ) K) zxN :=
  Con.of hl (by decide +kernel) (Nat.le_of_ble_eq_true rfl) [(0, .ref v0)] rfl rfl (fun X cx hmn hno ex => by
    exact s_J0_init_0 cx ex hno hmn h)
set_option maxHeartbeats 2000000 in
theorem s_J1_init_0 {X : zX} {A : Nat → Prop} {G : zG} {σ : zSt} {v0 : Nat} {K : zSt → Prop} (cx : Cx X cJ1_init 1 RJ1 none 2 32 0 0 A G) (ex : zGoal X (zpV (WC G A) K) zxN A 0 0) (hno : ∀ x ∈ (zC X).exceptionTable.toList, False) (hmn : (zMe X).name = "<init>")
    (h : w_J1_init_0 σ v0 K) : Z X 1 A (WC G A σ) 0 0 0 [(0, .ref v0)] [] := by
  unfold w_J1_init_0 at h
  refine z_aload_n cx dJ1_init_0 rfl 0 rfl ?_
  refine z_callI (rest := []) cx (c_J0_init cx.quiet h) q145 q146 q88 q147 rfl rfl yd_J0_init (Nat.le_of_ble_eq_true rfl) (Nat.le_of_ble_eq_true rfl) (Nat.le_of_ble_eq_true rfl) (Nat.le_of_ble_eq_true rfl) (Nat.le_of_ble_eq_true rfl) dJ1_init_1 rfl zx_none (zo_qV fun h => ?_)
  refine z_aload_n cx dJ1_init_4 rfl 0 rfl ?_
  refine z_iconst (v := 0) cx dJ1_init_5 rfl ?_
  refine zc_p cx h (ci := 15) rfl in_J2 tyJ2 tyJ2_ok nmJ2 (by decide) q153 (fun _ e => e) rfl (ty := .int) (by decide +kernel) rfl rfl dJ1_init_6 fun σ6 h => ?_
  exact z_vret cx ex dJ1_init_9 (fun H hO => ⟨_, rfl, h, hO⟩) (Nat.le_of_ble_eq_true rfl) (Nat.le_of_ble_eq_true rfl)
set_option maxHeartbeats 2000000 in
theorem c_J1_init {l : Launch} (hl : l.stackTraces = false) {A : Nat → Prop} {G : zG} {σ : zSt} {v0 : Nat} {K : zSt → Prop}  (h : w_J1_init_0 σ v0 K) : Con l yJ1_init cJ1_init 1 none 2 32 0 0 A G [.ref v0] (WC G A σ) (zpV (WC G A) K) zxN :=
  Con.of hl (by decide +kernel) (Nat.le_of_ble_eq_true rfl) [(0, .ref v0)] rfl rfl (fun X cx hmn hno ex => by
    exact s_J1_init_0 cx ex hno hmn h)
set_option maxHeartbeats 2000000 in
theorem s_J11_checkIndex_9 {X : zX} {A : Nat → Prop} {G : zG} {σ : zSt} {K : Int32 → Prop} (cx : Cx X cJ11_checkIndex 3 RJ11 (some .int) 0 0 0 0 A G) (ex : zGoal X (zqI (WC G A σ) K) zxN A 0 0) (hno : ∀ x ∈ (zC X).exceptionTable.toList, False)
    (h : w_J11_checkIndex_9 σ K) : Z X 3 A (WC G A σ) 0 0 9 [] [] := by
  unfold w_J11_checkIndex_9 at h
  exact h.elim
set_option maxHeartbeats 2000000 in
theorem s_J11_checkIndex_0 {X : zX} {A : Nat → Prop} {G : zG} {σ : zSt} {x0 : Int32} {x1 : Int32} {K : Int32 → Prop} (cx : Cx X cJ11_checkIndex 3 RJ11 (some .int) 0 0 0 0 A G) (ex : zGoal X (zqI (WC G A σ) K) zxN A 0 0) (hno : ∀ x ∈ (zC X).exceptionTable.toList, False)
    (h : w_J11_checkIndex_0 σ x0 x1 K) : Z X 3 A (WC G A σ) 0 0 0 [(0, .int x0), (1, .int x1)] [] := by
  unfold w_J11_checkIndex_0 at h
  refine z_iload_n cx dJ11_checkIndex_0 rfl 0 rfl ?_
  refine z_if_lt cx 9 dJ11_checkIndex_1 (by decide) (fun hc => ?_) (fun hc => ?_)
  · have h := h.1 hc
    refine Z.sub (lv2 := []) [] rfl ?_
    exact s_J11_checkIndex_9 cx ex hno h
  · have h := h.2 hc
    refine z_iload_n cx dJ11_checkIndex_4 rfl 0 rfl ?_
    refine z_iload_n cx dJ11_checkIndex_5 rfl 1 rfl ?_
    refine z_icmp_lt cx 16 dJ11_checkIndex_6 (by decide) (fun hc => ?_) (fun hc => ?_)
    · have h := h.1 hc
      refine z_iload_n cx dJ11_checkIndex_16 rfl 0 rfl ?_
      exact z_iret cx ex dJ11_checkIndex_17 (fun H hO => ⟨_, rfl, h, hO⟩) (Nat.le_of_ble_eq_true rfl) (Nat.le_of_ble_eq_true rfl)
    · have h := h.2 hc
      refine Z.sub (lv2 := []) [] rfl ?_
      exact s_J11_checkIndex_9 cx ex hno h
set_option maxHeartbeats 2000000 in
theorem c_J11_checkIndex {l : Launch} (hl : l.stackTraces = false) {A : Nat → Prop} {G : zG} {σ : zSt} {x0 : Int32} {x1 : Int32} {K : Int32 → Prop}  (h : w_J11_checkIndex_0 σ x0 x1 K) : Con l yJ11_checkIndex cJ11_checkIndex 3 (some .int) 0 0 0 0 A G [.int x0, .int x1, va_rf none] (WC G A σ) (zqI (WC G A σ) K) zxN :=
  Con.of hl (by decide +kernel) (Nat.le_of_ble_eq_true rfl) [(0, .int x0), (1, .int x1), (2, va_rf none)] rfl rfl (fun X cx hmn hno ex => by
    refine Z.sub (lv2 := [(0, _), (1, _)]) [0, 1] rfl ?_
    exact s_J11_checkIndex_0 cx ex hno h)
set_option maxHeartbeats 2000000 in
theorem s_J10_checkIndex_0 {X : zX} {A : Nat → Prop} {G : zG} {σ : zSt} {x0 : Int32} {x1 : Int32} {K : Int32 → Prop} (cx : Cx X cJ10_checkIndex 2 RJ10 (some .int) 1 22 0 0 A G) (ex : zGoal X (zqI (WC G A σ) K) zxN A 0 0) (hno : ∀ x ∈ (zC X).exceptionTable.toList, False)
    (h : w_J10_checkIndex_0 σ x0 x1 K) : Z X 2 A (WC G A σ) 0 0 0 [(0, .int x0), (1, .int x1)] [] := by
  unfold w_J10_checkIndex_0 at h
  refine z_iload_n cx dJ10_checkIndex_0 rfl 0 rfl ?_
  refine z_iload_n cx dJ10_checkIndex_1 rfl 1 rfl ?_
  refine z_null cx dJ10_checkIndex_2 ?_
  refine z_callS (rest := []) cx (c_J11_checkIndex cx.quiet h) q413 q414 q105 q415 rfl yd_J11_checkIndex (Nat.le_of_ble_eq_true rfl) (Nat.le_of_ble_eq_true rfl) (Nat.le_of_ble_eq_true rfl) (Nat.le_of_ble_eq_true rfl) (Nat.le_of_ble_eq_true rfl) dJ10_checkIndex_3 rfl zx_none (zo_qI fun g3 h => ?_)
  exact z_iret cx ex dJ10_checkIndex_6 (fun H hO => ⟨_, rfl, h, hO⟩) (Nat.le_of_ble_eq_true rfl) (Nat.le_of_ble_eq_true rfl)
set_option maxHeartbeats 2000000 in
theorem c_J10_checkIndex {l : Launch} (hl : l.stackTraces = false) {A : Nat → Prop} {G : zG} {σ : zSt} {x0 : Int32} {x1 : Int32} {K : Int32 → Prop}  (h : w_J10_checkIndex_0 σ x0 x1 K) : Con l yJ10_checkIndex cJ10_checkIndex 2 (some .int) 1 22 0 0 A G [.int x0, .int x1] (WC G A σ) (zqI (WC G A σ) K) zxN :=
  Con.of hl (by decide +kernel) (Nat.le_of_ble_eq_true rfl) [(0, .int x0), (1, .int x1)] rfl rfl (fun X cx hmn hno ex => by
    exact s_J10_checkIndex_0 cx ex hno h)
set_option maxHeartbeats 2000000 in
theorem s_J19_equals_10 {X : zX} {A : Nat → Prop} {G : zG} {σ : zSt} {t0 : Int32} {K : Int32 → Prop} (cx : Cx X cJ19_equals 2 RJ19 (some .boolean) 0 0 0 0 A G) (ex : zGoal X (zqI (WC G A σ) K) zxN A 0 0) (hno : ∀ x ∈ (zC X).exceptionTable.toList, False)
    (h : w_J19_equals_10 σ t0 K) : Z X 2 A (WC G A σ) 0 0 10 [] [.int t0] := by
  unfold w_J19_equals_10 at h
  obtain ⟨hb, h⟩ := h
  exact z_zret cx ex dJ19_equals_10 hb (fun H hO => ⟨_, rfl, h, hO⟩) (Nat.le_of_ble_eq_true rfl) (Nat.le_of_ble_eq_true rfl)
set_option maxHeartbeats 2000000 in
theorem s_J19_equals_0 {X : zX} {A : Nat → Prop} {G : zG} {σ : zSt} {v0 : Nat} {v1 : Nat} {K : Int32 → Prop} (cx : Cx X cJ19_equals 2 RJ19 (some .boolean) 0 0 0 0 A G) (ex : zGoal X (zqI (WC G A σ) K) zxN A 0 0) (hno : ∀ x ∈ (zC X).exceptionTable.toList, False)
    (h : w_J19_equals_0 σ v0 v1 K) : Z X 2 A (WC G A σ) 0 0 0 [(0, .ref v0), (1, .ref v1)] [] := by
  unfold w_J19_equals_0 at h
  refine z_aload_n cx dJ19_equals_0 rfl 0 rfl ?_
  refine z_aload_n cx dJ19_equals_1 rfl 1 rfl ?_
  refine z_acmp_ne (rx := (some v0)) (ry := (some v1)) cx 9 dJ19_equals_2 (by decide) (fun hc => ?_) (fun hc => ?_)
  · have h := h.1 hc
    refine z_iconst (v := 0) cx dJ19_equals_9 rfl ?_
    refine Z.sub (lv2 := []) [] rfl ?_
    exact s_J19_equals_10 cx ex hno h
  · have h := h.2 hc
    refine z_iconst (v := 1) cx dJ19_equals_5 rfl ?_
    refine z_goto cx 10 dJ19_equals_6 (by decide) ?_
    refine Z.sub (lv2 := []) [] rfl ?_
    exact s_J19_equals_10 cx ex hno h
set_option maxHeartbeats 2000000 in
theorem c_J19_equals {l : Launch} (hl : l.stackTraces = false) {A : Nat → Prop} {G : zG} {σ : zSt} {v0 : Nat} {v1 : Nat} {K : Int32 → Prop}  (h : w_J19_equals_0 σ v0 v1 K) : Con l yJ19_equals cJ19_equals 2 (some .boolean) 0 0 0 0 A G [.ref v0, .ref v1] (WC G A σ) (zqI (WC G A σ) K) zxN :=
  Con.of hl (by decide +kernel) (Nat.le_of_ble_eq_true rfl) [(0, .ref v0), (1, .ref v1)] rfl rfl (fun X cx hmn hno ex => by
    exact s_J19_equals_0 cx ex hno h)
set_option maxHeartbeats 2000000 in
theorem s_J18_intValue_0 {X : zX} {A : Nat → Prop} {G : zG} {σ : zSt} {v0 : Nat} {K : Int32 → Prop} (cx : Cx X cJ18_intValue 1 RJ18 (some .int) 0 0 0 0 A G) (ex : zGoal X (zqI (WC G A σ) K) zxN A 0 0) (hno : ∀ x ∈ (zC X).exceptionTable.toList, False)
    (h : w_J18_intValue_0 σ v0 K) : Z X 1 A (WC G A σ) 0 0 0 [(0, .ref v0)] [] := by
  unfold w_J18_intValue_0 at h
  refine z_aload_n cx dJ18_intValue_0 rfl 0 rfl ?_
  refine zc_gV cx h q755 dJ18_intValue_1 fun g1 h => ?_
  exact z_iret cx ex dJ18_intValue_4 (fun H hO => ⟨_, rfl, h, hO⟩) (Nat.le_of_ble_eq_true rfl) (Nat.le_of_ble_eq_true rfl)
set_option maxHeartbeats 2000000 in
theorem c_J18_intValue {l : Launch} (hl : l.stackTraces = false) {A : Nat → Prop} {G : zG} {σ : zSt} {v0 : Nat} {K : Int32 → Prop}  (h : w_J18_intValue_0 σ v0 K) : Con l yJ18_intValue cJ18_intValue 1 (some .int) 0 0 0 0 A G [.ref v0] (WC G A σ) (zqI (WC G A σ) K) zxN :=
  Con.of hl (by decide +kernel) (Nat.le_of_ble_eq_true rfl) [(0, .ref v0)] rfl rfl (fun X cx hmn hno ex => by
    exact s_J18_intValue_0 cx ex hno h)
set_option maxHeartbeats 2000000 in
theorem s_J18_bitCount_0 {X : zX} {A : Nat → Prop} {G : zG} {Om : Heap → Prop} {x0 : Int32} {K : Int32 → Prop} (cx : Cx X cJ18_bitCount 1 RJ18 (some .int) 0 0 0 0 A G) (ex : zGoal X (zqI Om K) zxN A 0 0) (hno : ∀ x ∈ (zC X).exceptionTable.toList, False)
    (h : w_J18_bitCount_0 x0 K) : Z X 1 A Om 0 0 0 [(0, .int x0)] [] := by
  unfold w_J18_bitCount_0 at h
  refine z_iload_n cx dJ18_bitCount_0 rfl 0 rfl ?_
  refine z_iload_n cx dJ18_bitCount_1 rfl 0 rfl ?_
  refine z_iconst (v := 1) cx dJ18_bitCount_2 rfl ?_
  refine z_iushr cx dJ18_bitCount_3 ?_
  refine z_ldcw cx q428 dJ18_bitCount_4 ?_
  refine z_iand cx dJ18_bitCount_7 ?_
  refine z_isub cx dJ18_bitCount_8 ?_
  have h := h _ rfl
  refine z_istore_n (lv2 := [(0, _)]) cx dJ18_bitCount_9 rfl (by decide) rfl ?_
  refine z_iload_n cx dJ18_bitCount_10 rfl 0 rfl ?_
  refine z_ldcw cx q429 dJ18_bitCount_11 ?_
  refine z_iand cx dJ18_bitCount_14 ?_
  refine z_iload_n cx dJ18_bitCount_15 rfl 0 rfl ?_
  refine z_iconst (v := 2) cx dJ18_bitCount_16 rfl ?_
  refine z_iushr cx dJ18_bitCount_17 ?_
  refine z_ldcw cx q429 dJ18_bitCount_18 ?_
  refine z_iand cx dJ18_bitCount_21 ?_
  refine z_iadd cx dJ18_bitCount_22 ?_
  have h := h _ rfl
  refine z_istore_n (lv2 := [(0, _)]) cx dJ18_bitCount_23 rfl (by decide) rfl ?_
  refine z_iload_n cx dJ18_bitCount_24 rfl 0 rfl ?_
  refine z_iload_n cx dJ18_bitCount_25 rfl 0 rfl ?_
  refine z_iconst (v := 4) cx dJ18_bitCount_26 rfl ?_
  refine z_iushr cx dJ18_bitCount_27 ?_
  refine z_iadd cx dJ18_bitCount_28 ?_
  refine z_ldcw cx q430 dJ18_bitCount_29 ?_
  refine z_iand cx dJ18_bitCount_32 ?_
  have h := h _ rfl
  refine z_istore_n (lv2 := [(0, _)]) cx dJ18_bitCount_33 rfl (by decide) rfl ?_
  refine z_iload_n cx dJ18_bitCount_34 rfl 0 rfl ?_
  refine z_iload_n cx dJ18_bitCount_35 rfl 0 rfl ?_
  refine z_bipush (v := 8) cx dJ18_bitCount_36 (by decide) ?_
  refine z_iushr cx dJ18_bitCount_38 ?_
  refine z_iadd cx dJ18_bitCount_39 ?_
  have h := h _ rfl
  refine z_istore_n (lv2 := [(0, _)]) cx dJ18_bitCount_40 rfl (by decide) rfl ?_
  refine z_iload_n cx dJ18_bitCount_41 rfl 0 rfl ?_
  refine z_iload_n cx dJ18_bitCount_42 rfl 0 rfl ?_
  refine z_bipush (v := 16) cx dJ18_bitCount_43 (by decide) ?_
  refine z_iushr cx dJ18_bitCount_45 ?_
  refine z_iadd cx dJ18_bitCount_46 ?_
  have h := h _ rfl
  refine z_istore_n (lv2 := [(0, _)]) cx dJ18_bitCount_47 rfl (by decide) rfl ?_
  refine z_iload_n cx dJ18_bitCount_48 rfl 0 rfl ?_
  refine z_bipush (v := 63) cx dJ18_bitCount_49 (by decide) ?_
  refine z_iand cx dJ18_bitCount_51 ?_
  exact z_iret cx ex dJ18_bitCount_52 (fun H hO => ⟨_, rfl, h, hO⟩) (Nat.le_of_ble_eq_true rfl) (Nat.le_of_ble_eq_true rfl)
set_option maxHeartbeats 2000000 in
theorem c_J18_bitCount {l : Launch} (hl : l.stackTraces = false) {A : Nat → Prop} {G : zG} {Om : Heap → Prop} {x0 : Int32} {K : Int32 → Prop}  (h : w_J18_bitCount_0 x0 K) : Con l yJ18_bitCount cJ18_bitCount 1 (some .int) 0 0 0 0 A G [.int x0] Om (zqI Om K) zxN :=
  Con.of hl (by decide +kernel) (Nat.le_of_ble_eq_true rfl) [(0, .int x0)] rfl rfl (fun X cx hmn hno ex => by
    exact s_J18_bitCount_0 cx ex hno h)
set_option maxHeartbeats 2000000 in
theorem s_J18_valueOf_23 {X : zX} {A : Nat → Prop} {G : zG} {σ : zSt} {K : Nat → Prop} (cx : Cx X cJ18_valueOf 1 RJ18 (some (.object "java/lang/Integer")) 0 0 0 0 A G) (ex : zGoal X (zqR (WC G A σ) K) zxN A 0 0) (hno : ∀ x ∈ (zC X).exceptionTable.toList, False)
    (h : w_J18_valueOf_23 σ K) : Z X 1 A (WC G A σ) 0 0 23 [] [] := by
  unfold w_J18_valueOf_23 at h
  exact h.elim
set_option maxHeartbeats 2000000 in
theorem s_J18_valueOf_0 {X : zX} {A : Nat → Prop} {G : zG} {σ : zSt} {x0 : Int32} {K : Nat → Prop} (cx : Cx X cJ18_valueOf 1 RJ18 (some (.object "java/lang/Integer")) 0 0 0 0 A G) (ex : zGoal X (zqR (WC G A σ) K) zxN A 0 0) (hno : ∀ x ∈ (zC X).exceptionTable.toList, False)
    (h : w_J18_valueOf_0 σ x0 K) : Z X 1 A (WC G A σ) 0 0 0 [(0, .int x0)] [] := by
  unfold w_J18_valueOf_0 at h
  refine z_iload_n cx dJ18_valueOf_0 rfl 0 rfl ?_
  refine z_bipush (v := (-128)) cx dJ18_valueOf_1 (by decide) ?_
  refine z_icmp_lt cx 23 dJ18_valueOf_3 (by decide) (fun hc => ?_) (fun hc => ?_)
  · have h := h.1 hc
    refine Z.sub (lv2 := []) [] rfl ?_
    exact s_J18_valueOf_23 cx ex hno h
  · have h := h.2 hc
    refine z_iload_n cx dJ18_valueOf_6 rfl 0 rfl ?_
    refine zc_high cx q742 dJ18_valueOf_7 ?_
    refine z_icmp_gt cx 23 dJ18_valueOf_10 (by decide) (fun hc => ?_) (fun hc => ?_)
    · have h := h.1 hc
      refine Z.sub (lv2 := []) [] rfl ?_
      exact s_J18_valueOf_23 cx ex hno h
    · have h := h.2 hc
      refine zc_st260 cx q744 dJ18_valueOf_13 ?_
      refine z_iload_n cx dJ18_valueOf_16 rfl 0 rfl ?_
      refine z_sipush (v := 128) cx dJ18_valueOf_17 (by decide) ?_
      refine z_iadd cx dJ18_valueOf_20 ?_
      refine zc_cache cx h dJ18_valueOf_21 fun r21 h => ?_
      exact z_aret (r := (some _)) cx ex (Or.inl ⟨_, rfl⟩) dJ18_valueOf_22 (fun H hO => ⟨_, rfl, h, hO⟩) (Nat.le_of_ble_eq_true rfl) (Nat.le_of_ble_eq_true rfl)
set_option maxHeartbeats 2000000 in
theorem c_J18_valueOf {l : Launch} (hl : l.stackTraces = false) {A : Nat → Prop} {G : zG} {σ : zSt} {x0 : Int32} {K : Nat → Prop}  (h : w_J18_valueOf_0 σ x0 K) : Con l yJ18_valueOf cJ18_valueOf 1 (some (.object "java/lang/Integer")) 0 0 0 0 A G [.int x0] (WC G A σ) (zqR (WC G A σ) K) zxN :=
  Con.of hl (by decide +kernel) (Nat.le_of_ble_eq_true rfl) [(0, .int x0)] rfl rfl (fun X cx hmn hno ex => by
    exact s_J18_valueOf_0 cx ex hno h)
set_option maxHeartbeats 2000000 in
theorem s_J5_copyOf_2_0 {X : zX} {A : Nat → Prop} {G : zG} {σ : zSt} {v0 : Nat} {x1 : Int32} {v2 : Nat} {K : Nat → zSt → Prop} (cx : Cx X cJ5_copyOf_2 4 RJ5 (some (.array (.object "java/lang/Object"))) 1 60 1 92 A G) (ex : zGoal X (zpR (WC G A) K) zxN A 1 92) (hno : ∀ x ∈ (zC X).exceptionTable.toList, False)
    (h : w_J5_copyOf_2_0 σ v0 x1 v2 K) : Z X 4 A (WC G A σ) 0 0 0 [(0, .ref v0), (1, .int x1), (2, .ref v2)] [] := by
  unfold w_J5_copyOf_2_0 at h
  refine z_aload_n cx dJ5_copyOf_2_0 rfl 2 rfl ?_
  refine zc_ldcM259 cx q265 dJ5_copyOf_2_1 ?_
  refine z_acmp_ne (rx := (some v2)) (ry := (some (σ.1 259))) cx 13 dJ5_copyOf_2_3 (by decide) (fun hc => ?_) (fun hc => ?_)
  · have h := h.1 hc
    exact h.elim
  · have h := h.2 hc
    refine z_iload_n cx dJ5_copyOf_2_6 rfl 1 rfl ?_
    refine zc_newr1 cx h q267 (Nat.le_of_ble_eq_true rfl) (Nat.le_of_ble_eq_true rfl) (Nat.le_of_ble_eq_true rfl) dJ5_copyOf_2_7 fun q7 σ7 h => ?_
    refine z_goto cx 24 dJ5_copyOf_2_10 (by decide) ?_
    refine z_astore_n (lv2 := [(0, _), (1, _), (2, _), (3, _)]) cx dJ5_copyOf_2_24 rfl (by decide) rfl ?_
    refine z_aload_n cx dJ5_copyOf_2_25 rfl 0 rfl ?_
    refine z_iconst (v := 0) cx dJ5_copyOf_2_26 rfl ?_
    refine z_aload_n cx dJ5_copyOf_2_27 rfl 3 rfl ?_
    refine z_iconst (v := 0) cx dJ5_copyOf_2_28 rfl ?_
    refine z_aload_n cx dJ5_copyOf_2_29 rfl 0 rfl ?_
    refine zc_alen cx h dJ5_copyOf_2_30 fun g30 h => ?_
    refine z_iload_n cx dJ5_copyOf_2_31 rfl 1 rfl ?_
    refine z_callS (rest := [.int _, .ref _, .int _, .ref _]) cx (c_J4_min cx.quiet h) q268 q269 q94 q270 rfl yd_J4_min (Nat.le_of_ble_eq_true rfl) (Nat.le_of_ble_eq_true rfl) (Nat.le_of_ble_eq_true rfl) (Nat.le_of_ble_eq_true rfl) (Nat.le_of_ble_eq_true rfl) dJ5_copyOf_2_32 rfl zx_none (zo_qI fun g32 h => ?_)
    refine zc_copy (rest := []) cx h q271 (Nat.le_of_ble_eq_true rfl) (Nat.le_of_ble_eq_true rfl) dJ5_copyOf_2_35 fun σ35 h => ?_
    refine z_aload_n cx dJ5_copyOf_2_38 rfl 3 rfl ?_
    exact z_aret (r := (some _)) cx ex (Or.inr ⟨_, rfl⟩) dJ5_copyOf_2_39 (fun H hO => ⟨_, _, rfl, h, hO⟩) (Nat.le_of_ble_eq_true rfl) (Nat.le_of_ble_eq_true rfl)
set_option maxHeartbeats 2000000 in
theorem c_J5_copyOf_2 {l : Launch} (hl : l.stackTraces = false) {A : Nat → Prop} {G : zG} {σ : zSt} {v0 : Nat} {x1 : Int32} {v2 : Nat} {K : Nat → zSt → Prop}  (h : w_J5_copyOf_2_0 σ v0 x1 v2 K) : Con l yJ5_copyOf_2 cJ5_copyOf_2 4 (some (.array (.object "java/lang/Object"))) 1 60 1 92 A G [.ref v0, .int x1, .ref v2] (WC G A σ) (zpR (WC G A) K) zxN :=
  Con.of hl (by decide +kernel) (Nat.le_of_ble_eq_true rfl) [(0, .ref v0), (1, .int x1), (2, .ref v2)] rfl rfl (fun X cx hmn hno ex => by
    exact s_J5_copyOf_2_0 cx ex hno h)
set_option maxHeartbeats 2000000 in
theorem s_J5_copyOf_0 {X : zX} {A : Nat → Prop} {G : zG} {σ : zSt} {v0 : Nat} {x1 : Int32} {K : Nat → zSt → Prop} (cx : Cx X cJ5_copyOf 2 RJ5 (some (.array (.object "java/lang/Object"))) 2 83 1 92 A G) (ex : zGoal X (zpR (WC G A) K) zxN A 1 92) (hno : ∀ x ∈ (zC X).exceptionTable.toList, False)
    (h : w_J5_copyOf_0 σ v0 x1 K) : Z X 2 A (WC G A σ) 0 0 0 [(0, .ref v0), (1, .int x1)] [] := by
  unfold w_J5_copyOf_0 at h
  refine z_aload_n cx dJ5_copyOf_0 rfl 0 rfl ?_
  refine z_iload_n cx dJ5_copyOf_1 rfl 1 rfl ?_
  refine z_aload_n cx dJ5_copyOf_2 rfl 0 rfl ?_
  obtain ⟨hr, h⟩ := h
  refine zc_getClassA (rest := [.int _, .ref _]) cx hr q236 (Nat.le_of_ble_eq_true rfl) (Nat.le_of_ble_eq_true rfl) dJ5_copyOf_3 ?_
  refine z_callS (rest := []) cx (c_J5_copyOf_2 cx.quiet h) q262 q263 q95 q264 rfl yd_J5_copyOf_2 (Nat.le_of_ble_eq_true rfl) (Nat.le_of_ble_eq_true rfl) (Nat.le_of_ble_eq_true rfl) (Nat.le_of_ble_eq_true rfl) (Nat.le_of_ble_eq_true rfl) dJ5_copyOf_6 rfl zx_none (zo_pR fun a6 σ6 h => ?_)
  exact z_aret (r := (some _)) cx ex (Or.inr ⟨_, rfl⟩) dJ5_copyOf_9 (fun H hO => ⟨_, _, rfl, h, hO⟩) (Nat.le_of_ble_eq_true rfl) (Nat.le_of_ble_eq_true rfl)
set_option maxHeartbeats 2000000 in
theorem c_J5_copyOf {l : Launch} (hl : l.stackTraces = false) {A : Nat → Prop} {G : zG} {σ : zSt} {v0 : Nat} {x1 : Int32} {K : Nat → zSt → Prop}  (h : w_J5_copyOf_0 σ v0 x1 K) : Con l yJ5_copyOf cJ5_copyOf 2 (some (.array (.object "java/lang/Object"))) 2 83 1 92 A G [.ref v0, .int x1] (WC G A σ) (zpR (WC G A) K) zxN :=
  Con.of hl (by decide +kernel) (Nat.le_of_ble_eq_true rfl) [(0, .ref v0), (1, .int x1)] rfl rfl (fun X cx hmn hno ex => by
    exact s_J5_copyOf_0 cx ex hno h)
set_option maxHeartbeats 2000000 in
theorem s_J2_size_0 {X : zX} {A : Nat → Prop} {G : zG} {σ : zSt} {v0 : Nat} {K : Int32 → Prop} (cx : Cx X cJ2_size 1 RJ2 (some .int) 0 0 0 0 A G) (ex : zGoal X (zqI (WC G A σ) K) zxN A 0 0) (hno : ∀ x ∈ (zC X).exceptionTable.toList, False)
    (h : w_J2_size_0 σ v0 K) : Z X 1 A (WC G A σ) 0 0 0 [(0, .ref v0)] [] := by
  unfold w_J2_size_0 at h
  refine z_aload_n cx dJ2_size_0 rfl 0 rfl ?_
  refine zc_gI cx h (ci := 15) rfl in_J2 (by decide) q152 (fun _ e => e) dJ2_size_1 fun g1 h => ?_
  exact z_iret cx ex dJ2_size_4 (fun H hO => ⟨_, rfl, h, hO⟩) (Nat.le_of_ble_eq_true rfl) (Nat.le_of_ble_eq_true rfl)
set_option maxHeartbeats 2000000 in
theorem cr_J2_size {l : Launch} (hl : l.stackTraces = false) {A : Nat → Prop} {G : zG} {σ : zSt} {v0 : Nat} {K : Int32 → Prop}  (h : w_J2_size_0 σ v0 K) : Con l yJ2_size cJ2_size 1 (some .int) 0 0 0 0 A G [.ref v0] (WC G A σ) (zqI (WC G A σ) K) zxN :=
  Con.of hl (by decide +kernel) (Nat.le_of_ble_eq_true rfl) [(0, .ref v0)] rfl rfl (fun X cx hmn hno ex => by
    exact s_J2_size_0 cx ex hno h)
set_option maxHeartbeats 2000000 in
theorem s_J2_elementData_0 {X : zX} {A : Nat → Prop} {G : zG} {σ : zSt} {v0 : Nat} {x1 : Int32} {K : Nat → Prop} (cx : Cx X cJ2_elementData 2 RJ2 (some (.object "java/lang/Object")) 0 0 0 0 A G) (ex : zGoal X (zqR (WC G A σ) K) zxN A 0 0) (hno : ∀ x ∈ (zC X).exceptionTable.toList, False)
    (h : w_J2_elementData_0 σ v0 x1 K) : Z X 2 A (WC G A σ) 0 0 0 [(0, .ref v0), (1, .int x1)] [] := by
  unfold w_J2_elementData_0 at h
  refine z_aload_n cx dJ2_elementData_0 rfl 0 rfl ?_
  refine zc_gR cx h (ci := 15) rfl in_J2 (by decide) q151 (fun _ e => e) dJ2_elementData_1 fun a1 h => ?_
  refine z_iload_n cx dJ2_elementData_4 rfl 1 rfl ?_
  refine zc_aaR cx h rfl rfl dJ2_elementData_5 fun r5 h => ?_
  exact z_aret (r := (some _)) cx ex (Or.inl ⟨_, rfl⟩) dJ2_elementData_6 (fun H hO => ⟨_, rfl, h, hO⟩) (Nat.le_of_ble_eq_true rfl) (Nat.le_of_ble_eq_true rfl)
set_option maxHeartbeats 2000000 in
theorem c_J2_elementData {l : Launch} (hl : l.stackTraces = false) {A : Nat → Prop} {G : zG} {σ : zSt} {v0 : Nat} {x1 : Int32} {K : Nat → Prop}  (h : w_J2_elementData_0 σ v0 x1 K) : Con l yJ2_elementData cJ2_elementData 2 (some (.object "java/lang/Object")) 0 0 0 0 A G [.ref v0, .int x1] (WC G A σ) (zqR (WC G A σ) K) zxN :=
  Con.of hl (by decide +kernel) (Nat.le_of_ble_eq_true rfl) [(0, .ref v0), (1, .int x1)] rfl rfl (fun X cx hmn hno ex => by
    exact s_J2_elementData_0 cx ex hno h)
set_option maxHeartbeats 2000000 in
theorem s_J2_get_0 {X : zX} {A : Nat → Prop} {G : zG} {σ : zSt} {v0 : Nat} {x1 : Int32} {K : Nat → Prop} (cx : Cx X cJ2_get 2 RJ2 (some (.object "java/lang/Object")) 2 43 0 0 A G) (ex : zGoal X (zqR (WC G A σ) K) zxN A 0 0) (hno : ∀ x ∈ (zC X).exceptionTable.toList, False)
    (h : w_J2_get_0 σ v0 x1 K) : Z X 2 A (WC G A σ) 0 0 0 [(0, .ref v0), (1, .int x1)] [] := by
  unfold w_J2_get_0 at h
  refine z_iload_n cx dJ2_get_0 rfl 1 rfl ?_
  refine z_aload_n cx dJ2_get_1 rfl 0 rfl ?_
  refine zc_gI cx h (ci := 15) rfl in_J2 (by decide) q152 (fun _ e => e) dJ2_get_2 fun g2 h => ?_
  refine z_callS (rest := []) cx (c_J10_checkIndex cx.quiet h) q410 q411 q104 q412 rfl yd_J10_checkIndex (Nat.le_of_ble_eq_true rfl) (Nat.le_of_ble_eq_true rfl) (Nat.le_of_ble_eq_true rfl) (Nat.le_of_ble_eq_true rfl) (Nat.le_of_ble_eq_true rfl) dJ2_get_5 rfl zx_none (zo_qI fun g5 h => ?_)
  refine z_pop cx dJ2_get_8 rfl ?_
  refine z_aload_n cx dJ2_get_9 rfl 0 rfl ?_
  refine z_iload_n cx dJ2_get_10 rfl 1 rfl ?_
  obtain ⟨hr, h⟩ := h
  refine z_callV (C := RJ2) (rest := []) cx (c_J2_elementData cx.quiet h) q416 q417 q418 q90 q419 (zrv_C cx hr rfl) rfl ⟨rfl, yd_J2_elementData⟩ (Nat.le_of_ble_eq_true rfl) (Nat.le_of_ble_eq_true rfl) (Nat.le_of_ble_eq_true rfl) (Nat.le_of_ble_eq_true rfl) (Nat.le_of_ble_eq_true rfl) dJ2_get_11 rfl zx_none (zo_qR fun a11 h => ?_)
  exact z_aret (r := (some _)) cx ex (Or.inl ⟨_, rfl⟩) dJ2_get_14 (fun H hO => ⟨_, rfl, h, hO⟩) (Nat.le_of_ble_eq_true rfl) (Nat.le_of_ble_eq_true rfl)
set_option maxHeartbeats 2000000 in
theorem cr_J2_get {l : Launch} (hl : l.stackTraces = false) {A : Nat → Prop} {G : zG} {σ : zSt} {v0 : Nat} {x1 : Int32} {K : Nat → Prop}  (h : w_J2_get_0 σ v0 x1 K) : Con l yJ2_get cJ2_get 2 (some (.object "java/lang/Object")) 2 43 0 0 A G [.ref v0, .int x1] (WC G A σ) (zqR (WC G A σ) K) zxN :=
  Con.of hl (by decide +kernel) (Nat.le_of_ble_eq_true rfl) [(0, .ref v0), (1, .int x1)] rfl rfl (fun X cx hmn hno ex => by
    exact s_J2_get_0 cx ex hno h)
set_option maxHeartbeats 2000000 in
theorem s_J2_grow_2_20 {X : zX} {A : Nat → Prop} {G : zG} {σ : zSt} {v0 : Nat} {x1 : Int32} {x2 : Int32} {K : Nat → zSt → Prop} (cx : Cx X cJ2_grow_2 4 RJ2 (some (.array (.object "java/lang/Object"))) 3 104 1 92 A G) (ex : zGoal X (zpR (WC G A) K) zxN A 1 92) (hno : ∀ x ∈ (zC X).exceptionTable.toList, False)
    (h : w_J2_grow_2_20 σ v0 x1 x2 K) : Z X 4 A (WC G A σ) 0 0 20 [(0, .ref v0), (1, .int x1), (2, .int x2)] [] := by
  unfold w_J2_grow_2_20 at h
  refine z_iload_n cx dJ2_grow_2_20 rfl 2 rfl ?_
  refine z_iload_n cx dJ2_grow_2_21 rfl 1 rfl ?_
  refine z_iload_n cx dJ2_grow_2_22 rfl 2 rfl ?_
  refine z_isub cx dJ2_grow_2_23 ?_
  refine z_iload_n cx dJ2_grow_2_24 rfl 2 rfl ?_
  refine z_iconst (v := 1) cx dJ2_grow_2_25 rfl ?_
  refine z_ishr cx dJ2_grow_2_26 ?_
  refine z_callS (rest := []) cx (c_J3_newLength cx.quiet h) q223 q224 q93 q225 rfl yd_J3_newLength (Nat.le_of_ble_eq_true rfl) (Nat.le_of_ble_eq_true rfl) (Nat.le_of_ble_eq_true rfl) (Nat.le_of_ble_eq_true rfl) (Nat.le_of_ble_eq_true rfl) dJ2_grow_2_27 rfl zx_none (zo_qI fun g27 h => ?_)
  refine z_istore_n (lv2 := [(0, _), (1, _), (2, _), (3, _)]) cx dJ2_grow_2_30 rfl (by decide) rfl ?_
  refine z_aload_n cx dJ2_grow_2_31 rfl 0 rfl ?_
  refine z_aload_n cx dJ2_grow_2_32 rfl 0 rfl ?_
  refine zc_gR cx h (ci := 15) rfl in_J2 (by decide) q151 (fun _ e => e) dJ2_grow_2_33 fun a33 h => ?_
  refine z_iload_n cx dJ2_grow_2_36 rfl 3 rfl ?_
  refine z_callS (rest := [.ref _]) cx (c_J5_copyOf cx.quiet h) q233 q234 q95 q235 rfl yd_J5_copyOf (Nat.le_of_ble_eq_true rfl) (Nat.le_of_ble_eq_true rfl) (Nat.le_of_ble_eq_true rfl) (Nat.le_of_ble_eq_true rfl) (Nat.le_of_ble_eq_true rfl) dJ2_grow_2_37 rfl zx_none (zo_pR fun a37 σ37 h => ?_)
  refine z_dup_x1 cx dJ2_grow_2_40 rfl rfl ?_
  refine zc_p cx h (ci := 15) rfl in_J2 tyJ2 tyJ2_ok nmJ2 (by decide) q151 (fun _ e => e) rfl (ty := (tyJ2 1)) (tyJ2_ok 1 (by decide)) rfl rfl dJ2_grow_2_41 fun σ41 h => ?_
  exact z_aret (r := (some _)) cx ex (Or.inr ⟨_, rfl⟩) dJ2_grow_2_44 (fun H hO => ⟨_, _, rfl, h, hO⟩) (Nat.le_of_ble_eq_true rfl) (Nat.le_of_ble_eq_true rfl)
set_option maxHeartbeats 2000000 in
theorem s_J2_grow_2_0 {X : zX} {A : Nat → Prop} {G : zG} {σ : zSt} {v0 : Nat} {x1 : Int32} {K : Nat → zSt → Prop} (cx : Cx X cJ2_grow_2 4 RJ2 (some (.array (.object "java/lang/Object"))) 3 104 1 92 A G) (ex : zGoal X (zpR (WC G A) K) zxN A 1 92) (hno : ∀ x ∈ (zC X).exceptionTable.toList, False)
    (h : w_J2_grow_2_0 σ v0 x1 K) : Z X 4 A (WC G A σ) 0 0 0 [(0, .ref v0), (1, .int x1)] [] := by
  unfold w_J2_grow_2_0 at h
  refine z_aload_n cx dJ2_grow_2_0 rfl 0 rfl ?_
  refine zc_gR cx h (ci := 15) rfl in_J2 (by decide) q151 (fun _ e => e) dJ2_grow_2_1 fun a1 h => ?_
  refine zc_alen cx h dJ2_grow_2_4 fun g4 h => ?_
  refine z_istore_n (lv2 := [(0, _), (1, _), (2, _)]) cx dJ2_grow_2_5 rfl (by decide) rfl ?_
  refine z_iload_n cx dJ2_grow_2_6 rfl 2 rfl ?_
  refine z_if_gt cx 20 dJ2_grow_2_7 (by decide) (fun hc => ?_) (fun hc => ?_)
  · have h := h.1 hc
    exact s_J2_grow_2_20 cx ex hno h
  · have h := h.2 hc
    refine z_aload_n cx dJ2_grow_2_10 rfl 0 rfl ?_
    refine zc_gR cx h (ci := 15) rfl in_J2 (by decide) q151 (fun _ e => e) dJ2_grow_2_11 fun a11 h => ?_
    refine zc_st256 cx q149 dJ2_grow_2_14 ?_
    refine z_acmp_eq (rx := (some a11)) (ry := (some (σ.1 256))) cx 45 dJ2_grow_2_17 (by decide) (fun hc => ?_) (fun hc => ?_)
    · have h := h.1 hc
      refine z_aload_n cx dJ2_grow_2_45 rfl 0 rfl ?_
      refine z_bipush (v := 10) cx dJ2_grow_2_46 (by decide) ?_
      refine z_iload_n cx dJ2_grow_2_48 rfl 1 rfl ?_
      refine z_callS (rest := [.ref _]) cx (c_J4_max cx.quiet h) q274 q227 q94 q228 rfl yd_J4_max (Nat.le_of_ble_eq_true rfl) (Nat.le_of_ble_eq_true rfl) (Nat.le_of_ble_eq_true rfl) (Nat.le_of_ble_eq_true rfl) (Nat.le_of_ble_eq_true rfl) dJ2_grow_2_49 rfl zx_none (zo_qI fun g49 h => ?_)
      refine zc_newr1 cx h q275 (Nat.le_of_ble_eq_true rfl) (Nat.le_of_ble_eq_true rfl) (Nat.le_of_ble_eq_true rfl) dJ2_grow_2_52 fun q52 σ52 h => ?_
      refine z_dup_x1 cx dJ2_grow_2_55 rfl rfl ?_
      refine zc_p cx h (ci := 15) rfl in_J2 tyJ2 tyJ2_ok nmJ2 (by decide) q151 (fun _ e => e) rfl (ty := (tyJ2 1)) (tyJ2_ok 1 (by decide)) rfl rfl dJ2_grow_2_56 fun σ56 h => ?_
      exact z_aret (r := (some _)) cx ex (Or.inr ⟨_, rfl⟩) dJ2_grow_2_59 (fun H hO => ⟨_, _, rfl, h, hO⟩) (Nat.le_of_ble_eq_true rfl) (Nat.le_of_ble_eq_true rfl)
    · have h := h.2 hc
      exact s_J2_grow_2_20 cx ex hno h
set_option maxHeartbeats 2000000 in
theorem c_J2_grow_2 {l : Launch} (hl : l.stackTraces = false) {A : Nat → Prop} {G : zG} {σ : zSt} {v0 : Nat} {x1 : Int32} {K : Nat → zSt → Prop}  (h : w_J2_grow_2_0 σ v0 x1 K) : Con l yJ2_grow_2 cJ2_grow_2 4 (some (.array (.object "java/lang/Object"))) 3 104 1 92 A G [.ref v0, .int x1] (WC G A σ) (zpR (WC G A) K) zxN :=
  Con.of hl (by decide +kernel) (Nat.le_of_ble_eq_true rfl) [(0, .ref v0), (1, .int x1)] rfl rfl (fun X cx hmn hno ex => by
    exact s_J2_grow_2_0 cx ex hno h)
set_option maxHeartbeats 2000000 in
theorem s_J2_grow_0 {X : zX} {A : Nat → Prop} {G : zG} {σ : zSt} {v0 : Nat} {K : Nat → zSt → Prop} (cx : Cx X cJ2_grow 1 RJ2 (some (.array (.object "java/lang/Object"))) 4 127 1 92 A G) (ex : zGoal X (zpR (WC G A) K) zxN A 1 92) (hno : ∀ x ∈ (zC X).exceptionTable.toList, False)
    (h : w_J2_grow_0 σ v0 K) : Z X 1 A (WC G A σ) 0 0 0 [(0, .ref v0)] [] := by
  unfold w_J2_grow_0 at h
  refine z_aload_n cx dJ2_grow_0 rfl 0 rfl ?_
  refine z_aload_n cx dJ2_grow_1 rfl 0 rfl ?_
  refine zc_gI cx h (ci := 15) rfl in_J2 (by decide) q152 (fun _ e => e) dJ2_grow_2 fun g2 h => ?_
  refine z_iconst (v := 1) cx dJ2_grow_5 rfl ?_
  refine z_iadd cx dJ2_grow_6 ?_
  obtain ⟨hr, h⟩ := h
  refine z_callV (C := RJ2) (rest := []) cx (c_J2_grow_2 cx.quiet h) q219 q221 qs2 q90 q222 (zrv_C cx hr rfl) rfl ⟨rfl, yd_J2_grow_2⟩ (Nat.le_of_ble_eq_true rfl) (Nat.le_of_ble_eq_true rfl) (Nat.le_of_ble_eq_true rfl) (Nat.le_of_ble_eq_true rfl) (Nat.le_of_ble_eq_true rfl) dJ2_grow_7 rfl zx_none (zo_pR fun a7 σ7 h => ?_)
  exact z_aret (r := (some _)) cx ex (Or.inr ⟨_, rfl⟩) dJ2_grow_10 (fun H hO => ⟨_, _, rfl, h, hO⟩) (Nat.le_of_ble_eq_true rfl) (Nat.le_of_ble_eq_true rfl)
set_option maxHeartbeats 2000000 in
theorem c_J2_grow {l : Launch} (hl : l.stackTraces = false) {A : Nat → Prop} {G : zG} {σ : zSt} {v0 : Nat} {K : Nat → zSt → Prop}  (h : w_J2_grow_0 σ v0 K) : Con l yJ2_grow cJ2_grow 1 (some (.array (.object "java/lang/Object"))) 4 127 1 92 A G [.ref v0] (WC G A σ) (zpR (WC G A) K) zxN :=
  Con.of hl (by decide +kernel) (Nat.le_of_ble_eq_true rfl) [(0, .ref v0)] rfl rfl (fun X cx hmn hno ex => by
    exact s_J2_grow_0 cx ex hno h)
set_option maxHeartbeats 2000000 in
theorem s_J2_add_2_11 {X : zX} {A : Nat → Prop} {G : zG} {σ : zSt} {v0 : Nat} {v1 : Nat} {v2 : Nat} {x3 : Int32} {K : zSt → Prop} (cx : Cx X cJ2_add_2 4 RJ2 none 5 147 1 92 A G) (ex : zGoal X (zpV (WC G A) K) zxN A 1 92) (hno : ∀ x ∈ (zC X).exceptionTable.toList, False)
    (h : w_J2_add_2_11 σ v0 v1 v2 x3 K) : Z X 4 A (WC G A σ) 1 92 11 [(0, .ref v0), (1, .ref v1), (2, .ref v2), (3, .int x3)] [] := by
  unfold w_J2_add_2_11 at h
  refine z_aload_n cx dJ2_add_2_11 rfl 2 rfl ?_
  refine z_iload_n cx dJ2_add_2_12 rfl 3 rfl ?_
  refine z_aload_n cx dJ2_add_2_13 rfl 1 rfl ?_
  refine zc_aast1 (r := (some _)) cx h dJ2_add_2_14 fun σ14 h => ?_
  refine z_aload_n cx dJ2_add_2_15 rfl 0 rfl ?_
  refine z_iload_n cx dJ2_add_2_16 rfl 3 rfl ?_
  refine z_iconst (v := 1) cx dJ2_add_2_17 rfl ?_
  refine z_iadd cx dJ2_add_2_18 ?_
  refine zc_p cx h (ci := 15) rfl in_J2 tyJ2 tyJ2_ok nmJ2 (by decide) q152 (fun _ e => e) rfl (ty := .int) (by decide +kernel) rfl rfl dJ2_add_2_19 fun σ19 h => ?_
  exact z_vret cx ex dJ2_add_2_22 (fun H hO => ⟨_, rfl, h, hO⟩) (Nat.le_of_ble_eq_true rfl) (Nat.le_of_ble_eq_true rfl)
set_option maxHeartbeats 2000000 in
theorem s_J2_add_2_0 {X : zX} {A : Nat → Prop} {G : zG} {σ : zSt} {v0 : Nat} {v1 : Nat} {v2 : Nat} {x3 : Int32} {K : zSt → Prop} (cx : Cx X cJ2_add_2 4 RJ2 none 5 147 1 92 A G) (ex : zGoal X (zpV (WC G A) K) zxN A 1 92) (hno : ∀ x ∈ (zC X).exceptionTable.toList, False)
    (h : w_J2_add_2_0 σ v0 v1 v2 x3 K) : Z X 4 A (WC G A σ) 0 0 0 [(0, .ref v0), (1, .ref v1), (2, .ref v2), (3, .int x3)] [] := by
  unfold w_J2_add_2_0 at h
  refine z_iload_n cx dJ2_add_2_0 rfl 3 rfl ?_
  refine z_aload_n cx dJ2_add_2_1 rfl 2 rfl ?_
  refine zc_alen cx h dJ2_add_2_2 fun g2 h => ?_
  refine z_icmp_ne cx 11 dJ2_add_2_3 (by decide) (fun hc => ?_) (fun hc => ?_)
  · have h := h.1 hc
    refine Z.wide (uc2 := 1) (us2 := 92) (Nat.le_of_ble_eq_true rfl) (Nat.le_of_ble_eq_true rfl) ?_
    exact s_J2_add_2_11 cx ex hno h
  · have h := h.2 hc
    refine z_aload_n cx dJ2_add_2_6 rfl 0 rfl ?_
    obtain ⟨hr, h⟩ := h
    refine z_callV (C := RJ2) (rest := []) cx (c_J2_grow cx.quiet h) q215 q217 qs1 q90 q218 (zrv_C cx hr rfl) rfl ⟨rfl, yd_J2_grow⟩ (Nat.le_of_ble_eq_true rfl) (Nat.le_of_ble_eq_true rfl) (Nat.le_of_ble_eq_true rfl) (Nat.le_of_ble_eq_true rfl) (Nat.le_of_ble_eq_true rfl) dJ2_add_2_7 rfl zx_none (zo_pR fun a7 σ7 h => ?_)
    refine z_astore_n (lv2 := [(0, _), (1, _), (2, _), (3, _)]) cx dJ2_add_2_10 rfl (by decide) rfl ?_
    exact s_J2_add_2_11 cx ex hno h
set_option maxHeartbeats 2000000 in
theorem c_J2_add_2 {l : Launch} (hl : l.stackTraces = false) {A : Nat → Prop} {G : zG} {σ : zSt} {v0 : Nat} {v1 : Nat} {v2 : Nat} {x3 : Int32} {K : zSt → Prop}  (h : w_J2_add_2_0 σ v0 v1 v2 x3 K) : Con l yJ2_add_2 cJ2_add_2 4 none 5 147 1 92 A G [.ref v0, .ref v1, .ref v2, .int x3] (WC G A σ) (zpV (WC G A) K) zxN :=
  Con.of hl (by decide +kernel) (Nat.le_of_ble_eq_true rfl) [(0, .ref v0), (1, .ref v1), (2, .ref v2), (3, .int x3)] rfl rfl (fun X cx hmn hno ex => by
    exact s_J2_add_2_0 cx ex hno h)
set_option maxHeartbeats 2000000 in
theorem s_J2_add_0 {X : zX} {A : Nat → Prop} {G : zG} {σ : zSt} {v0 : Nat} {v1 : Nat} {K : Int32 → zSt → Prop} (cx : Cx X cJ2_add 2 RJ2 (some .boolean) 6 170 1 92 A G) (ex : zGoal X (zpI (WC G A) K) zxN A 1 92) (hno : ∀ x ∈ (zC X).exceptionTable.toList, False)
    (h : w_J2_add_0 σ v0 v1 K) : Z X 2 A (WC G A σ) 0 0 0 [(0, .ref v0), (1, .ref v1)] [] := by
  unfold w_J2_add_0 at h
  refine z_aload_n cx dJ2_add_0 rfl 0 rfl ?_
  refine z_dup cx dJ2_add_1 rfl ?_
  refine zc_gI cx h (ci := 15) rfl in_J2 (by decide) q154 (fun x e => u_same (cx.ts _ q155) x e) dJ2_add_2 fun g2 h => ?_
  refine z_iconst (v := 1) cx dJ2_add_5 rfl ?_
  refine z_iadd cx dJ2_add_6 ?_
  refine zc_p cx h (ci := 15) rfl in_J2 tyJ2 tyJ2_ok nmJ2 (by decide) q154 (fun x e => u_same (cx.ts _ q155) x e) rfl (ty := .int) (by decide +kernel) rfl rfl dJ2_add_7 fun σ7 h => ?_
  refine z_aload_n cx dJ2_add_10 rfl 0 rfl ?_
  refine z_aload_n cx dJ2_add_11 rfl 1 rfl ?_
  refine z_aload_n cx dJ2_add_12 rfl 0 rfl ?_
  refine zc_gR cx h (ci := 15) rfl in_J2 (by decide) q151 (fun _ e => e) dJ2_add_13 fun a13 h => ?_
  refine z_aload_n cx dJ2_add_16 rfl 0 rfl ?_
  refine zc_gI cx h (ci := 15) rfl in_J2 (by decide) q152 (fun _ e => e) dJ2_add_17 fun g17 h => ?_
  obtain ⟨hr, h⟩ := h
  refine z_callV (C := RJ2) (rest := []) cx (c_J2_add_2 cx.quiet h) q211 q213 qs0 q90 q214 (zrv_C cx hr rfl) rfl ⟨rfl, yd_J2_add_2⟩ (Nat.le_of_ble_eq_true rfl) (Nat.le_of_ble_eq_true rfl) (Nat.le_of_ble_eq_true rfl) (Nat.le_of_ble_eq_true rfl) (Nat.le_of_ble_eq_true rfl) dJ2_add_20 rfl zx_none (zo_pV fun σ20 h => ?_)
  refine z_iconst (v := 1) cx dJ2_add_23 rfl ?_
  exact z_zret cx ex dJ2_add_24 (Or.inr rfl) (fun H hO => ⟨_, _, rfl, h, hO⟩) (Nat.le_of_ble_eq_true rfl) (Nat.le_of_ble_eq_true rfl)
set_option maxHeartbeats 2000000 in
theorem cr_J2_add {l : Launch} (hl : l.stackTraces = false) {A : Nat → Prop} {G : zG} {σ : zSt} {v0 : Nat} {v1 : Nat} {K : Int32 → zSt → Prop}  (h : w_J2_add_0 σ v0 v1 K) : Con l yJ2_add cJ2_add 2 (some .boolean) 6 170 1 92 A G [.ref v0, .ref v1] (WC G A σ) (zpI (WC G A) K) zxN :=
  Con.of hl (by decide +kernel) (Nat.le_of_ble_eq_true rfl) [(0, .ref v0), (1, .ref v1)] rfl rfl (fun X cx hmn hno ex => by
    exact s_J2_add_0 cx ex hno h)
set_option maxHeartbeats 2000000 in
theorem s_J2_fastRemove_34 {X : zX} {A : Nat → Prop} {G : zG} {σ : zSt} {v0 : Nat} {v1 : Nat} {x3 : Int32} {K : zSt → Prop} (cx : Cx X cJ2_fastRemove 4 RJ2 none 1 60 0 0 A G) (ex : zGoal X (zpV (WC G A) K) zxN A 0 0) (hno : ∀ x ∈ (zC X).exceptionTable.toList, False)
    (h : w_J2_fastRemove_34 σ v0 v1 x3 K) : Z X 4 A (WC G A σ) 0 0 34 [(0, .ref v0), (1, .ref v1), (3, .int x3)] [] := by
  unfold w_J2_fastRemove_34 at h
  refine z_aload_n cx dJ2_fastRemove_34 rfl 1 rfl ?_
  refine z_aload_n cx dJ2_fastRemove_35 rfl 0 rfl ?_
  refine z_iload_n cx dJ2_fastRemove_36 rfl 2 rfl ?_
  refine z_dup_x1 cx dJ2_fastRemove_37 rfl rfl ?_
  refine zc_p cx h (ci := 15) rfl in_J2 tyJ2 tyJ2_ok nmJ2 (by decide) q152 (fun _ e => e) rfl (ty := .int) (by decide +kernel) rfl rfl dJ2_fastRemove_38 fun σ38 h => ?_
  refine z_null cx dJ2_fastRemove_41 ?_
  refine zc_aast1 (r := none) cx h dJ2_fastRemove_42 fun σ42 h => ?_
  exact z_vret cx ex dJ2_fastRemove_43 (fun H hO => ⟨_, rfl, h, hO⟩) (Nat.le_of_ble_eq_true rfl) (Nat.le_of_ble_eq_true rfl)
set_option maxHeartbeats 2000000 in
theorem s_J2_fastRemove_0 {X : zX} {A : Nat → Prop} {G : zG} {σ : zSt} {v0 : Nat} {v1 : Nat} {x2 : Int32} {K : zSt → Prop} (cx : Cx X cJ2_fastRemove 4 RJ2 none 1 60 0 0 A G) (ex : zGoal X (zpV (WC G A) K) zxN A 0 0) (hno : ∀ x ∈ (zC X).exceptionTable.toList, False)
    (h : w_J2_fastRemove_0 σ v0 v1 x2 K) : Z X 4 A (WC G A σ) 0 0 0 [(0, .ref v0), (1, .ref v1), (2, .int x2)] [] := by
  unfold w_J2_fastRemove_0 at h
  refine z_aload_n cx dJ2_fastRemove_0 rfl 0 rfl ?_
  refine z_dup cx dJ2_fastRemove_1 rfl ?_
  refine zc_gI cx h (ci := 15) rfl in_J2 (by decide) q154 (fun x e => u_same (cx.ts _ q155) x e) dJ2_fastRemove_2 fun g2 h => ?_
  refine z_iconst (v := 1) cx dJ2_fastRemove_5 rfl ?_
  refine z_iadd cx dJ2_fastRemove_6 ?_
  refine zc_p cx h (ci := 15) rfl in_J2 tyJ2 tyJ2_ok nmJ2 (by decide) q154 (fun x e => u_same (cx.ts _ q155) x e) rfl (ty := .int) (by decide +kernel) rfl rfl dJ2_fastRemove_7 fun σ7 h => ?_
  refine z_aload_n cx dJ2_fastRemove_10 rfl 0 rfl ?_
  refine zc_gI cx h (ci := 15) rfl in_J2 (by decide) q152 (fun _ e => e) dJ2_fastRemove_11 fun g11 h => ?_
  refine z_iconst (v := 1) cx dJ2_fastRemove_14 rfl ?_
  refine z_isub cx dJ2_fastRemove_15 ?_
  refine z_dup cx dJ2_fastRemove_16 rfl ?_
  have h := h _ rfl
  refine z_istore_n (lv2 := [(0, _), (1, _), (2, _), (3, _)]) cx dJ2_fastRemove_17 rfl (by decide) rfl ?_
  refine z_iload_n cx dJ2_fastRemove_18 rfl 2 rfl ?_
  refine z_icmp_le cx 34 dJ2_fastRemove_19 (by decide) (fun hc => ?_) (fun hc => ?_)
  · have h := h.1 hc
    refine Z.sub (lv2 := [(0, _), (1, _), (3, _)]) [0, 1, 3] rfl ?_
    exact s_J2_fastRemove_34 cx ex hno h
  · have h := h.2 hc
    refine z_aload_n cx dJ2_fastRemove_22 rfl 1 rfl ?_
    refine z_iload_n cx dJ2_fastRemove_23 rfl 2 rfl ?_
    refine z_iconst (v := 1) cx dJ2_fastRemove_24 rfl ?_
    refine z_iadd cx dJ2_fastRemove_25 ?_
    refine z_aload_n cx dJ2_fastRemove_26 rfl 1 rfl ?_
    refine z_iload_n cx dJ2_fastRemove_27 rfl 2 rfl ?_
    refine z_iload_n cx dJ2_fastRemove_28 rfl 3 rfl ?_
    refine z_iload_n cx dJ2_fastRemove_29 rfl 2 rfl ?_
    refine z_isub cx dJ2_fastRemove_30 ?_
    refine zc_copy (rest := []) cx h q576 (Nat.le_of_ble_eq_true rfl) (Nat.le_of_ble_eq_true rfl) dJ2_fastRemove_31 fun σ31 h => ?_
    refine Z.sub (lv2 := [(0, _), (1, _), (3, _)]) [0, 1, 3] rfl ?_
    exact s_J2_fastRemove_34 cx ex hno h
set_option maxHeartbeats 2000000 in
theorem c_J2_fastRemove {l : Launch} (hl : l.stackTraces = false) {A : Nat → Prop} {G : zG} {σ : zSt} {v0 : Nat} {v1 : Nat} {x2 : Int32} {K : zSt → Prop}  (h : w_J2_fastRemove_0 σ v0 v1 x2 K) : Con l yJ2_fastRemove cJ2_fastRemove 4 none 1 60 0 0 A G [.ref v0, .ref v1, .int x2] (WC G A σ) (zpV (WC G A) K) zxN :=
  Con.of hl (by decide +kernel) (Nat.le_of_ble_eq_true rfl) [(0, .ref v0), (1, .ref v1), (2, .int x2)] rfl rfl (fun X cx hmn hno ex => by
    exact s_J2_fastRemove_0 cx ex hno h)
set_option maxHeartbeats 2000000 in
theorem s_J2_remove_0 {X : zX} {A : Nat → Prop} {G : zG} {σ : zSt} {v0 : Nat} {x1 : Int32} {K : Nat → zSt → Prop} (cx : Cx X cJ2_remove 4 RJ2 (some (.object "java/lang/Object")) 2 83 0 0 A G) (ex : zGoal X (zpR (WC G A) K) zxN A 0 0) (hno : ∀ x ∈ (zC X).exceptionTable.toList, False)
    (h : w_J2_remove_0 σ v0 x1 K) : Z X 4 A (WC G A σ) 0 0 0 [(0, .ref v0), (1, .int x1)] [] := by
  unfold w_J2_remove_0 at h
  refine z_iload_n cx dJ2_remove_0 rfl 1 rfl ?_
  refine z_aload_n cx dJ2_remove_1 rfl 0 rfl ?_
  refine zc_gI cx h (ci := 15) rfl in_J2 (by decide) q152 (fun _ e => e) dJ2_remove_2 fun g2 h => ?_
  refine z_callS (rest := []) cx (c_J10_checkIndex cx.quiet h) q410 q411 q104 q412 rfl yd_J10_checkIndex (Nat.le_of_ble_eq_true rfl) (Nat.le_of_ble_eq_true rfl) (Nat.le_of_ble_eq_true rfl) (Nat.le_of_ble_eq_true rfl) (Nat.le_of_ble_eq_true rfl) dJ2_remove_5 rfl zx_none (zo_qI fun g5 h => ?_)
  refine z_pop cx dJ2_remove_8 rfl ?_
  refine z_aload_n cx dJ2_remove_9 rfl 0 rfl ?_
  refine zc_gR cx h (ci := 15) rfl in_J2 (by decide) q151 (fun _ e => e) dJ2_remove_10 fun a10 h => ?_
  refine z_astore_n (lv2 := [(0, _), (1, _), (2, _)]) cx dJ2_remove_13 rfl (by decide) rfl ?_
  refine z_aload_n cx dJ2_remove_14 rfl 2 rfl ?_
  refine z_iload_n cx dJ2_remove_15 rfl 1 rfl ?_
  refine zc_aaR cx h rfl rfl dJ2_remove_16 fun r16 h => ?_
  refine z_astore_n (lv2 := [(0, _), (1, _), (2, _), (3, _)]) cx dJ2_remove_17 rfl (by decide) rfl ?_
  refine z_aload_n cx dJ2_remove_18 rfl 0 rfl ?_
  refine z_aload_n cx dJ2_remove_19 rfl 2 rfl ?_
  refine z_iload_n cx dJ2_remove_20 rfl 1 rfl ?_
  obtain ⟨hr, h⟩ := h
  refine z_callV (C := RJ2) (rest := []) cx (c_J2_fastRemove cx.quiet h) q572 q574 qs5 q90 q575 (zrv_C cx hr rfl) rfl ⟨rfl, yd_J2_fastRemove⟩ (Nat.le_of_ble_eq_true rfl) (Nat.le_of_ble_eq_true rfl) (Nat.le_of_ble_eq_true rfl) (Nat.le_of_ble_eq_true rfl) (Nat.le_of_ble_eq_true rfl) dJ2_remove_21 rfl zx_none (zo_pV fun σ21 h => ?_)
  refine z_aload_n cx dJ2_remove_24 rfl 3 rfl ?_
  exact z_aret (r := (some _)) cx ex (Or.inl ⟨_, rfl⟩) dJ2_remove_25 (fun H hO => ⟨_, _, rfl, h, hO⟩) (Nat.le_of_ble_eq_true rfl) (Nat.le_of_ble_eq_true rfl)
set_option maxHeartbeats 2000000 in
theorem cr_J2_remove {l : Launch} (hl : l.stackTraces = false) {A : Nat → Prop} {G : zG} {σ : zSt} {v0 : Nat} {x1 : Int32} {K : Nat → zSt → Prop}  (h : w_J2_remove_0 σ v0 x1 K) : Con l yJ2_remove cJ2_remove 4 (some (.object "java/lang/Object")) 2 83 0 0 A G [.ref v0, .int x1] (WC G A σ) (zpR (WC G A) K) zxN :=
  Con.of hl (by decide +kernel) (Nat.le_of_ble_eq_true rfl) [(0, .ref v0), (1, .int x1)] rfl rfl (fun X cx hmn hno ex => by
    exact s_J2_remove_0 cx ex hno h)
set_option maxHeartbeats 2000000 in
theorem s_J2_toArray_0 {X : zX} {A : Nat → Prop} {G : zG} {σ : zSt} {v0 : Nat} {K : Nat → zSt → Prop} (cx : Cx X cJ2_toArray 1 RJ2 (some (.array (.object "java/lang/Object"))) 3 104 1 92 A G) (ex : zGoal X (zpR (WC G A) K) zxN A 1 92) (hno : ∀ x ∈ (zC X).exceptionTable.toList, False)
    (h : w_J2_toArray_0 σ v0 K) : Z X 1 A (WC G A σ) 0 0 0 [(0, .ref v0)] [] := by
  unfold w_J2_toArray_0 at h
  refine z_aload_n cx dJ2_toArray_0 rfl 0 rfl ?_
  refine zc_gR cx h (ci := 15) rfl in_J2 (by decide) q151 (fun _ e => e) dJ2_toArray_1 fun a1 h => ?_
  refine z_aload_n cx dJ2_toArray_4 rfl 0 rfl ?_
  refine zc_gI cx h (ci := 15) rfl in_J2 (by decide) q152 (fun _ e => e) dJ2_toArray_5 fun g5 h => ?_
  refine z_callS (rest := []) cx (c_J5_copyOf cx.quiet h) q233 q234 q95 q235 rfl yd_J5_copyOf (Nat.le_of_ble_eq_true rfl) (Nat.le_of_ble_eq_true rfl) (Nat.le_of_ble_eq_true rfl) (Nat.le_of_ble_eq_true rfl) (Nat.le_of_ble_eq_true rfl) dJ2_toArray_8 rfl zx_none (zo_pR fun a8 σ8 h => ?_)
  exact z_aret (r := (some _)) cx ex (Or.inr ⟨_, rfl⟩) dJ2_toArray_11 (fun H hO => ⟨_, _, rfl, h, hO⟩) (Nat.le_of_ble_eq_true rfl) (Nat.le_of_ble_eq_true rfl)
set_option maxHeartbeats 2000000 in
theorem cr_J2_toArray {l : Launch} (hl : l.stackTraces = false) {A : Nat → Prop} {G : zG} {σ : zSt} {v0 : Nat} {K : Nat → zSt → Prop}  (h : w_J2_toArray_0 σ v0 K) : Con l yJ2_toArray cJ2_toArray 1 (some (.array (.object "java/lang/Object"))) 3 104 1 92 A G [.ref v0] (WC G A σ) (zpR (WC G A) K) zxN :=
  Con.of hl (by decide +kernel) (Nat.le_of_ble_eq_true rfl) [(0, .ref v0)] rfl rfl (fun X cx hmn hno ex => by
    exact s_J2_toArray_0 cx ex hno h)
set_option maxHeartbeats 2000000 in
theorem s_J2_clear_27 {X : zX} {A : Nat → Prop} {G : zG} {σ : zSt} {v1 : Nat} {x2 : Int32} {x3 : Int32} {K : zSt → Prop} {J27 : zSt → Nat → Int32 → Int32 → Prop} (cx : Cx X cJ2_clear 4 RJ2 none 0 0 0 0 A G) (ex : zGoal X (zpV (WC G A) K) zxN A 0 0) (hno : ∀ x ∈ (zC X).exceptionTable.toList, False) (hJ27 : ∀ {σ : zSt} {v1 : Nat} {x2 : Int32} {x3 : Int32}, J27 σ v1 x2 x3 → Z X 4 A (WC G A σ) 0 0 27 [(1, .ref v1), (2, .int x2), (3, .int x3)] [])
    (h : w_J2_clear_27 σ v1 x2 x3 K J27) : Z X 4 A (WC G A σ) 0 0 27 [(1, .ref v1), (2, .int x2), (3, .int x3)] [] := by
  unfold w_J2_clear_27 at h
  refine z_iload_n cx dJ2_clear_27 rfl 2 rfl ?_
  refine z_iload_n cx dJ2_clear_28 rfl 1 rfl ?_
  refine z_icmp_ge cx 42 dJ2_clear_29 (by decide) (fun hc => ?_) (fun hc => ?_)
  · have h := h.1 hc
    exact z_vret cx ex dJ2_clear_42 (fun H hO => ⟨_, rfl, h, hO⟩) (Nat.le_of_ble_eq_true rfl) (Nat.le_of_ble_eq_true rfl)
  · have h := h.2 hc
    refine z_aload_n cx dJ2_clear_32 rfl 0 rfl ?_
    refine z_iload_n cx dJ2_clear_33 rfl 2 rfl ?_
    refine z_null cx dJ2_clear_34 ?_
    refine zc_aast1 (r := none) cx h dJ2_clear_35 fun σ35 h => ?_
    have h := h _ rfl
    refine z_iinc (lv2 := [(1, _), (2, _), (3, _)]) cx (_ + 1) dJ2_clear_36 2 rfl rfl (by decide) rfl ?_
    refine z_goto cx 27 dJ2_clear_39 (by decide) ?_
    exact hJ27 h
set_option maxHeartbeats 2000000 in
theorem s_J2_clear_0 {X : zX} {A : Nat → Prop} {G : zG} {σ : zSt} {v0 : Nat} {K : zSt → Prop} {J27 : zSt → Nat → Int32 → Int32 → Prop} (cx : Cx X cJ2_clear 4 RJ2 none 0 0 0 0 A G) (ex : zGoal X (zpV (WC G A) K) zxN A 0 0) (hno : ∀ x ∈ (zC X).exceptionTable.toList, False) (hJ27 : ∀ {σ : zSt} {v1 : Nat} {x2 : Int32} {x3 : Int32}, J27 σ v1 x2 x3 → Z X 4 A (WC G A σ) 0 0 27 [(1, .ref v1), (2, .int x2), (3, .int x3)] [])
    (h : w_J2_clear_0 σ v0 K J27) : Z X 4 A (WC G A σ) 0 0 0 [(0, .ref v0)] [] := by
  unfold w_J2_clear_0 at h
  refine z_aload_n cx dJ2_clear_0 rfl 0 rfl ?_
  refine z_dup cx dJ2_clear_1 rfl ?_
  refine zc_gI cx h (ci := 15) rfl in_J2 (by decide) q154 (fun x e => u_same (cx.ts _ q155) x e) dJ2_clear_2 fun g2 h => ?_
  refine z_iconst (v := 1) cx dJ2_clear_5 rfl ?_
  refine z_iadd cx dJ2_clear_6 ?_
  refine zc_p cx h (ci := 15) rfl in_J2 tyJ2 tyJ2_ok nmJ2 (by decide) q154 (fun x e => u_same (cx.ts _ q155) x e) rfl (ty := .int) (by decide +kernel) rfl rfl dJ2_clear_7 fun σ7 h => ?_
  refine z_aload_n cx dJ2_clear_10 rfl 0 rfl ?_
  refine zc_gR cx h (ci := 15) rfl in_J2 (by decide) q151 (fun _ e => e) dJ2_clear_11 fun a11 h => ?_
  refine z_astore_n (lv2 := [(0, _), (1, _)]) cx dJ2_clear_14 rfl (by decide) rfl ?_
  refine z_aload_n cx dJ2_clear_15 rfl 0 rfl ?_
  refine zc_gI cx h (ci := 15) rfl in_J2 (by decide) q152 (fun _ e => e) dJ2_clear_16 fun g16 h => ?_
  refine z_istore_n (lv2 := [(0, _), (1, _), (2, _)]) cx dJ2_clear_19 rfl (by decide) rfl ?_
  refine z_aload_n cx dJ2_clear_20 rfl 0 rfl ?_
  refine z_iconst (v := 0) cx dJ2_clear_21 rfl ?_
  refine z_dup_x1 cx dJ2_clear_22 rfl rfl ?_
  refine zc_p cx h (ci := 15) rfl in_J2 tyJ2 tyJ2_ok nmJ2 (by decide) q152 (fun _ e => e) rfl (ty := .int) (by decide +kernel) rfl rfl dJ2_clear_23 fun σ23 h => ?_
  refine z_istore_n (lv2 := [(0, _), (1, _), (2, _), (3, _)]) cx dJ2_clear_26 rfl (by decide) rfl ?_
  refine Z.sub (lv2 := [(1, _), (2, _), (3, _)]) [1, 2, 3] rfl ?_
  exact hJ27 h
set_option maxHeartbeats 2000000 in
theorem s_J2_init_0 {X : zX} {A : Nat → Prop} {G : zG} {σ : zSt} {v0 : Nat} {K : zSt → Prop} (cx : Cx X cJ2_init 1 RJ2 none 3 52 0 0 A G) (ex : zGoal X (zpV (WC G A) K) zxN A 0 0) (hno : ∀ x ∈ (zC X).exceptionTable.toList, False) (hmn : (zMe X).name = "<init>")
    (h : w_J2_init_0 σ v0 K) : Z X 1 A (WC G A σ) 0 0 0 [(0, .ref v0)] [] := by
  unfold w_J2_init_0 at h
  refine z_aload_n cx dJ2_init_0 rfl 0 rfl ?_
  refine z_callI (rest := []) cx (c_J1_init cx.quiet h) q142 q143 q89 q144 rfl rfl yd_J1_init (Nat.le_of_ble_eq_true rfl) (Nat.le_of_ble_eq_true rfl) (Nat.le_of_ble_eq_true rfl) (Nat.le_of_ble_eq_true rfl) (Nat.le_of_ble_eq_true rfl) dJ2_init_1 rfl zx_none (zo_pV fun σ1 h => ?_)
  refine z_aload_n cx dJ2_init_4 rfl 0 rfl ?_
  refine zc_st256 cx q149 dJ2_init_5 ?_
  refine zc_p cx h (ci := 15) rfl in_J2 tyJ2 tyJ2_ok nmJ2 (by decide) q151 (fun _ e => e) rfl (ty := (tyJ2 1)) (tyJ2_ok 1 (by decide)) rfl rfl dJ2_init_8 fun σ8 h => ?_
  exact z_vret cx ex dJ2_init_11 (fun H hO => ⟨_, rfl, h, hO⟩) (Nat.le_of_ble_eq_true rfl) (Nat.le_of_ble_eq_true rfl)
set_option maxHeartbeats 2000000 in
theorem cr_J2_init {l : Launch} (hl : l.stackTraces = false) {A : Nat → Prop} {G : zG} {σ : zSt} {v0 : Nat} {K : zSt → Prop}  (h : w_J2_init_0 σ v0 K) : Con l yJ2_init cJ2_init 1 none 3 52 0 0 A G [.ref v0] (WC G A σ) (zpV (WC G A) K) zxN :=
  Con.of hl (by decide +kernel) (Nat.le_of_ble_eq_true rfl) [(0, .ref v0)] rfl rfl (fun X cx hmn hno ex => by
    exact s_J2_init_0 cx ex hno hmn h)

set_option maxRecDepth 100000
def w_X7_in_15 (t0 : Int32) (K : Int32 → Prop) : Prop :=
 (t0 = 0 ∨ t0 = 1) ∧ K t0
def w_X7_in_14 (K : Int32 → Prop) : Prop :=
 w_X7_in_15 0 K
def w_X7_in_0 (x0 : Int32) (x1 : Int32) (x2 : Int32) (K : Int32 → Prop) : Prop :=
 (x0 < x1 → (w_X7_in_14 K)) ∧
 (¬ (x0 < x1) → ((x2 < x0 → (w_X7_in_14 K)) ∧
 (¬ (x2 < x0) → (w_X7_in_15 1 K))))
def w_X7_isPath_39 (t0 : Int32) (K : Int32 → Prop) : Prop :=
 (t0 = 0 ∨ t0 = 1) ∧ K t0
def w_X7_isPath_38 (K : Int32 → Prop) : Prop :=
 w_X7_isPath_39 0 K
def w_X7_isPath_34 (K : Int32 → Prop) : Prop :=
 w_X7_isPath_39 1 K
def w_X7_isPath_0 (x0 : Int32) (K : Int32 → Prop) : Prop :=
 w_X7_in_0 x0 1 999 fun g5 => ((g5 = 0 → (w_X7_isPath_38 K)) ∧
 (¬ (g5 = 0) → (((x0 - x0 / 10 * 10) ≤ 0 → (w_X7_isPath_38 K)) ∧
 (¬ ((x0 - x0 / 10 * 10) ≤ 0) → ((x0 < 10 → (w_X7_isPath_34 K)) ∧
 (¬ (x0 < 10) → ((((x0 / 10) - (x0 / 10) / 10 * 10) ≤ 0 → (w_X7_isPath_38 K)) ∧
 (¬ (((x0 / 10) - (x0 / 10) / 10 * 10) ≤ 0) → (w_X7_isPath_34 K)))))))))
def w_X7_isWithin_33 (t0 : Int32) (K : Int32 → Prop) : Prop :=
 (t0 = 0 ∨ t0 = 1) ∧ K t0
def w_X7_isWithin_32 (K : Int32 → Prop) : Prop :=
 w_X7_isWithin_33 0 K
def w_X7_isWithin_28 (K : Int32 → Prop) : Prop :=
 w_X7_isWithin_33 1 K
def w_X7_isWithin_14 (x0 : Int32) (x1 : Int32) (K : Int32 → Prop) : Prop :=
 (¬ ((x0 / 100) = x1) → (w_X7_isWithin_32 K)) ∧
 ((x0 / 100) = x1 → ((x0 ≤ 99 → (w_X7_isWithin_32 K)) ∧
 (¬ (x0 ≤ 99) → (w_X7_isWithin_28 K))))
def w_X7_isWithin_0 (x0 : Int32) (x1 : Int32) (K : Int32 → Prop) : Prop :=
 (¬ ((x0 / 10) = x1) → (w_X7_isWithin_14 x0 x1 K)) ∧
 ((x0 / 10) = x1 → ((9 < x0 → (w_X7_isWithin_28 K)) ∧
 (¬ (9 < x0) → (w_X7_isWithin_14 x0 x1 K))))
def w_X7_isImage_0 (M : zMS) (x1 : Int32) (K : Int32 → Prop) : Prop :=
 w_X7_in_0 x1 0 ((M.1 15) - 1) fun g8 => ((g8 = 0 ∨ g8 = 1) ∧ K g8)
def w_X7_first_17 (M : zMS) (t0 : Int32) (K : Int32 → Prop) : Prop :=
 K t0
def w_X7_first_0 (M : zMS) (x1 : Int32) (K : Int32 → Prop) : Prop :=
 (0 ≤ x1 → (w_X7_first_17 M (10 * x1) K)) ∧
 (¬ (0 ≤ x1) → (w_X7_first_17 M (24 * ((-1) - x1)) K))
def w_X7_many_21 (M : zMS) (t0 : Int32) (K : Int32 → Prop) : Prop :=
 K t0
def w_X7_many_0 (M : zMS) (x1 : Int32) (K : Int32 → Prop) : Prop :=
 (0 ≤ x1 → (vp_in x1 20 ∧ (w_X7_many_21 M (M.2 3 x1.toNatClampNeg) K))) ∧
 (¬ (0 ≤ x1) → (vp_in ((-1) - x1) 8 ∧ (w_X7_many_21 M (M.2 27 ((-1) - x1).toNatClampNeg) K)))
def w_X7_pathAt_19 (M : zMS) (t0 : Int32) (K : Int32 → Prop) : Prop :=
 K t0
def w_X7_pathAt_0 (M : zMS) (x1 : Int32) (x2 : Int32) (K : Int32 → Prop) : Prop :=
 (0 ≤ x1 → (vp_in x2 200 ∧ (w_X7_pathAt_19 M (M.2 4 x2.toNatClampNeg) K))) ∧
 (¬ (0 ≤ x1) → (vp_in x2 192 ∧ (w_X7_pathAt_19 M (M.2 28 x2.toNatClampNeg) K)))
def w_X7_fails_0 (M : zMS) (x1 : Int32) (K : Int32 → zMS → Prop) : Prop :=
 ∀ M2 : zMS, M2 = zms M 0 x1 → (K 0 M2)
def w_X7_sourceAt_45 (M : zMS) (t0 : Int32) (K : Int32 → Prop) : Prop :=
 K t0
def w_X7_sourceAt_43 (M : zMS) (t1 : Int32) (t2 : Int32) (K : Int32 → Prop) : Prop :=
 vp_in (t1 - t2) 60 ∧ (w_X7_sourceAt_45 M (M.2 17 (t1 - t2).toNatClampNeg) K)
def w_X7_sourceAt_15 (M : zMS) (x1 : Int32) (x2 : Int32) (x3 : Int32) (K : Int32 → Prop) : Prop :=
 vp_in x1 12 ∧ ((¬ (x2 = (-1)) → (w_X7_sourceAt_43 M (((5 * x1) + (M.2 16 x1.toNatClampNeg)) - 1) (x3 - 1) K)) ∧
 (x2 = (-1) → (w_X7_sourceAt_43 M (((5 * x1) + (M.2 16 x1.toNatClampNeg)) - 1) x3 K)))
def w_X7_sourceAt_0 (M : zMS) (x1 : Int32) (x2 : Int32) (x3 : Int32) (K : Int32 → Prop) : Prop :=
 (x2 = (-1) → (w_X7_sourceAt_15 M x1 x2 x3 K)) ∧
 (¬ (x2 = (-1)) → ((¬ (x3 = 0) → (w_X7_sourceAt_15 M x1 x2 x3 K)) ∧
 (x3 = 0 → (w_X7_sourceAt_45 M ((-1) - x2) K))))
def w_X7_mounted_25 (M : zMS) (t0 : Int32) (K : Int32 → Prop) : Prop :=
 K t0
def w_X7_mounted_0 (M : zMS) (x1 : Int32) (x2 : Int32) (K : Int32 → Prop) : Prop :=
 w_X7_in_0 x2 1 99 fun g4 => ((g4 = 0 → (w_X7_mounted_25 M (-1) K)) ∧
 (¬ (g4 = 0) → (vp_in ((100 * x1) + x2) 800 ∧ (w_X7_mounted_25 M (M.2 34 ((100 * x1) + x2).toNatClampNeg) K))))
def w_X7_isInVolume_31 (M : zMS) (t0 : Int32) (K : Int32 → Prop) : Prop :=
 (t0 = 0 ∨ t0 = 1) ∧ K t0
def w_X7_isInVolume_26 (M : zMS) (K : Int32 → Prop) : Prop :=
 w_X7_isInVolume_31 M 1 K
def w_X7_isInVolume_0 (M : zMS) (x1 : Int32) (x2 : Int32) (K : Int32 → Prop) : Prop :=
 w_X7_mounted_0 M x1 (x2 / 10) fun g6 => ((¬ (g6 = (-1)) → (w_X7_isInVolume_26 M K)) ∧
 (g6 = (-1) → (w_X7_mounted_0 M x1 (x2 / 100) fun g19 => ((g19 = (-1) → (w_X7_isInVolume_31 M 0 K)) ∧
 (¬ (g19 = (-1)) → (w_X7_isInVolume_26 M K))))))
def w_X7_thrown_0 (M : zMS) (K : Int32 → Prop) : Prop :=
 K (M.1 0)
def w_X7_moved_24 (x0 : Int32) (x2 : Int32) (t0 : Int32) (K : Int32 → Prop) : Prop :=
 ¬ t0 = 0 ∧ (K ((x2 * t0) + (x0 - x0 / t0 * t0)))
def w_X7_moved_0 (x0 : Int32) (x1 : Int32) (x2 : Int32) (K : Int32 → Prop) : Prop :=
 (¬ (x0 = x1) → ((¬ ((x0 / 10) = x1) → (w_X7_moved_24 x0 x2 100 K)) ∧
 ((x0 / 10) = x1 → (w_X7_moved_24 x0 x2 10 K)))) ∧
 (x0 = x1 → (w_X7_moved_24 x0 x2 1 K))
def w_X7_meet_19 (t0 : Int32) (K : Int32 → Prop) : Prop :=
 (t0 = 0 ∨ t0 = 1) ∧ K t0
def w_X7_meet_18 (K : Int32 → Prop) : Prop :=
 w_X7_meet_19 0 K
def w_X7_meet_0 (x0 : Int32) (x1 : Int32) (x2 : Int32) (x3 : Int32) (K : Int32 → Prop) : Prop :=
 ((x2 + x3) ≤ x0 → (w_X7_meet_18 K)) ∧
 (¬ ((x2 + x3) ≤ x0) → (((x0 + x1) ≤ x2 → (w_X7_meet_18 K)) ∧
 (¬ ((x0 + x1) ≤ x2) → (w_X7_meet_19 1 K))))
def w_X7_isUser_0 (M : zMS) (x1 : Int32) (K : Int32 → Prop) : Prop :=
 w_X7_in_0 x1 0 ((M.1 42) - 1) fun g8 => ((g8 = 0 ∨ g8 = 1) ∧ K g8)
def w_X7_isGroup_0 (M : zMS) (x1 : Int32) (K : Int32 → Prop) : Prop :=
 w_X7_in_0 x1 0 ((M.1 48) - 1) fun g8 => ((g8 = 0 ∨ g8 = 1) ∧ K g8)
def w_X7_isConnected_38 (M : zMS) (t0 : Int32) (K : Int32 → Prop) : Prop :=
 (t0 = 0 ∨ t0 = 1) ∧ K t0
def w_X7_isConnected_0 (M : zMS) (x1 : Int32) (K : Int32 → Prop) : Prop :=
 vp_in (3 * x1) 24 ∧ (vp_in ((3 * x1) + 1) 24 ∧ (vp_in ((3 * x1) + 2) 24 ∧ (((((M.2 39 (3 * x1).toNatClampNeg) + (M.2 39 ((3 * x1) + 1).toNatClampNeg)) + (M.2 39 ((3 * x1) + 2).toNatClampNeg)) ≤ 0 → (w_X7_isConnected_38 M 0 K)) ∧
 (¬ ((((M.2 39 (3 * x1).toNatClampNeg) + (M.2 39 ((3 * x1) + 1).toNatClampNeg)) + (M.2 39 ((3 * x1) + 2).toNatClampNeg)) ≤ 0) → (w_X7_isConnected_38 M 1 K)))))
def w_X7_hits_0 (M : zMS) (K : Int32 → zMS → Prop) : Prop :=
 ∀ M2 : zMS, M2 = zms M 0 0 → (K (M2.1 60) M2)
def w_X7_layers_20 (M : zMS) (t0 : Int32) (K : Int32 → zMS → Prop) : Prop :=
 K t0 M
def w_X7_layers_0 (M : zMS) (x1 : Int32) (K : Int32 → zMS → Prop) : Prop :=
 ∀ M2 : zMS, M2 = zms M 0 0 → ((x1 = 0 → (w_X7_layers_20 M2 (M2.1 19) K)) ∧
 (¬ (x1 = 0) → (w_X7_layers_20 M2 (M2.1 18) K)))
def w_X7_group_63 (M : zMS) (x1 : Int32) (x2 : Int32) (x3 : Int32) (x4 : Int32) (t1 : Int32) (K : Int32 → zMS → Prop) : Prop :=
 ∀ M63 : zMS, M63 = zms M 0 t1 → (((M63.1 0) ≤ 0 → (vp_in (M63.1 48) 8 ∧ (∀ M84 : zMS, M84 = zma M63 49 (M63.1 48).toNatClampNeg x1 → (vp_in (M84.1 48) 8 ∧ (∀ M94 : zMS, M94 = zma M84 50 (M84.1 48).toNatClampNeg x2 → (vp_in (M94.1 48) 8 ∧ (∀ M104 : zMS, M104 = zma M94 51 (M94.1 48).toNatClampNeg x3 → (vp_in (M104.1 48) 8 ∧ (∀ M115 : zMS, M115 = zma M104 52 (M104.1 48).toNatClampNeg x4 → (∀ M123 : zMS, M123 = zms M115 48 ((M115.1 48) + 1) → (K ((M123.1 48) - 1) M123))))))))))) ∧
 (¬ ((M63.1 0) ≤ 0) → (K 0 M63)))
def w_X7_group_45 (M : zMS) (x1 : Int32) (x2 : Int32) (x3 : Int32) (x4 : Int32) (K : Int32 → zMS → Prop) : Prop :=
 w_X7_group_63 M x1 x2 x3 x4 2 K
def w_X7_group_0 (M : zMS) (x1 : Int32) (x2 : Int32) (x3 : Int32) (x4 : Int32) (K : Int32 → zMS → Prop) : Prop :=
 w_X7_isGroup_0 M x1 fun g3 => ((¬ (g3 = 0) → (w_X7_in_0 x2 0 50 fun g17 => ((g17 = 0 → (w_X7_group_45 M x1 x2 x3 x4 K)) ∧
 (¬ (g17 = 0) → (w_X7_in_0 x3 0 9999 fun g28 => ((g28 = 0 → (w_X7_group_45 M x1 x2 x3 x4 K)) ∧
 (¬ (g28 = 0) → (w_X7_in_0 x4 1 99 fun g39 => ((¬ (g39 = 0) → ((¬ ((M.1 48) = 8) → (w_X7_group_63 M x1 x2 x3 x4 0 K)) ∧
 ((M.1 48) = 8 → (w_X7_group_63 M x1 x2 x3 x4 3 K)))) ∧
 (g39 = 0 → (w_X7_group_45 M x1 x2 x3 x4 K))))))))))) ∧
 (g3 = 0 → (w_X7_group_63 M x1 x2 x3 x4 1 K)))
def w_X7_user_27 (M : zMS) (x1 : Int32) (t1 : Int32) (K : Int32 → zMS → Prop) : Prop :=
 ∀ M27 : zMS, M27 = zms M 0 t1 → (((M27.1 0) ≤ 0 → (vp_in (M27.1 42) 8 ∧ (∀ M48 : zMS, M48 = zma M27 43 (M27.1 42).toNatClampNeg x1 → (∀ M56 : zMS, M56 = zms M48 42 ((M48.1 42) + 1) → (K ((M56.1 42) - 1) M56))))) ∧
 (¬ ((M27.1 0) ≤ 0) → (K 0 M27)))
def w_X7_user_0 (M : zMS) (x1 : Int32) (K : Int32 → zMS → Prop) : Prop :=
 w_X7_isUser_0 M x1 fun g3 => ((¬ (g3 = 0) → ((¬ ((M.1 42) = 8) → (w_X7_user_27 M x1 0 K)) ∧
 ((M.1 42) = 8 → (w_X7_user_27 M x1 2 K)))) ∧
 (g3 = 0 → (w_X7_user_27 M x1 1 K)))
theorem yd_X7_in : yX7_in.cls ≠ "java/lang/invoke/MethodHandle" ∧ yX7_in.cls ≠ "java/lang/invoke/VarHandle" ∧ (parseMethodDescriptor yX7_in.desc).map (fun d => d.parameters.length) = some 3 := by decide +kernel
theorem yd_X7_mounted : yX7_mounted.cls ≠ "java/lang/invoke/MethodHandle" ∧ yX7_mounted.cls ≠ "java/lang/invoke/VarHandle" ∧ (parseMethodDescriptor yX7_mounted.desc).map (fun d => d.parameters.length) = some 2 := by decide +kernel
theorem yd_X7_isGroup : yX7_isGroup.cls ≠ "java/lang/invoke/MethodHandle" ∧ yX7_isGroup.cls ≠ "java/lang/invoke/VarHandle" ∧ (parseMethodDescriptor yX7_isGroup.desc).map (fun d => d.parameters.length) = some 1 := by decide +kernel
theorem yd_X7_isUser : yX7_isUser.cls ≠ "java/lang/invoke/MethodHandle" ∧ yX7_isUser.cls ≠ "java/lang/invoke/VarHandle" ∧ (parseMethodDescriptor yX7_isUser.desc).map (fun d => d.parameters.length) = some 1 := by decide +kernel
set_option maxHeartbeats 2000000 in
theorem s_X7_in_15 {X : zX} {A : Nat → Prop} {G : zG} {Om : Heap → Prop} {t0 : Int32} {K : Int32 → Prop} (cx : Cx X cX7_in 3 RX7 (some .boolean) 0 0 0 0 A G) (ex : zGoal X (zqI Om K) zxN A 0 0) (hno : ∀ x ∈ (zC X).exceptionTable.toList, False)
    (h : w_X7_in_15 t0 K) : Z X 3 A Om 0 0 15 [] [.int t0] := by
  unfold w_X7_in_15 at h
  obtain ⟨hb, h⟩ := h
  exact z_zret cx ex dX7_in_15 hb (fun H hO => ⟨_, rfl, h, hO⟩) (Nat.le_of_ble_eq_true rfl) (Nat.le_of_ble_eq_true rfl)
set_option maxHeartbeats 2000000 in
theorem s_X7_in_14 {X : zX} {A : Nat → Prop} {G : zG} {Om : Heap → Prop}  {K : Int32 → Prop} (cx : Cx X cX7_in 3 RX7 (some .boolean) 0 0 0 0 A G) (ex : zGoal X (zqI Om K) zxN A 0 0) (hno : ∀ x ∈ (zC X).exceptionTable.toList, False)
    (h : w_X7_in_14 K) : Z X 3 A Om 0 0 14 [] [] := by
  unfold w_X7_in_14 at h
  refine z_iconst (v := 0) cx dX7_in_14 rfl ?_
  exact s_X7_in_15 cx ex hno h
set_option maxHeartbeats 2000000 in
theorem s_X7_in_0 {X : zX} {A : Nat → Prop} {G : zG} {Om : Heap → Prop} {x0 : Int32} {x1 : Int32} {x2 : Int32} {K : Int32 → Prop} (cx : Cx X cX7_in 3 RX7 (some .boolean) 0 0 0 0 A G) (ex : zGoal X (zqI Om K) zxN A 0 0) (hno : ∀ x ∈ (zC X).exceptionTable.toList, False)
    (h : w_X7_in_0 x0 x1 x2 K) : Z X 3 A Om 0 0 0 [(0, .int x0), (1, .int x1), (2, .int x2)] [] := by
  unfold w_X7_in_0 at h
  refine z_iload_n cx dX7_in_0 rfl 0 rfl ?_
  refine z_iload_n cx dX7_in_1 rfl 1 rfl ?_
  refine z_icmp_lt cx 14 dX7_in_2 (by decide) (fun hc => ?_) (fun hc => ?_)
  · have h := h.1 hc
    refine Z.sub (lv2 := []) [] rfl ?_
    exact s_X7_in_14 cx ex hno h
  · have h := h.2 hc
    refine z_iload_n cx dX7_in_5 rfl 0 rfl ?_
    refine z_iload_n cx dX7_in_6 rfl 2 rfl ?_
    refine z_icmp_gt cx 14 dX7_in_7 (by decide) (fun hc => ?_) (fun hc => ?_)
    · have h := h.1 hc
      refine Z.sub (lv2 := []) [] rfl ?_
      exact s_X7_in_14 cx ex hno h
    · have h := h.2 hc
      refine z_iconst (v := 1) cx dX7_in_10 rfl ?_
      refine z_goto cx 15 dX7_in_11 (by decide) ?_
      refine Z.sub (lv2 := []) [] rfl ?_
      exact s_X7_in_15 cx ex hno h
set_option maxHeartbeats 2000000 in
theorem c_X7_in {l : Launch} (hl : l.stackTraces = false) {A : Nat → Prop} {G : zG} {Om : Heap → Prop} {x0 : Int32} {x1 : Int32} {x2 : Int32} {K : Int32 → Prop}  (h : w_X7_in_0 x0 x1 x2 K) : Con l yX7_in cX7_in 3 (some .boolean) 0 0 0 0 A G [.int x0, .int x1, .int x2] Om (zqI Om K) zxN :=
  Con.of hl (by decide +kernel) (Nat.le_of_ble_eq_true rfl) [(0, .int x0), (1, .int x1), (2, .int x2)] rfl rfl (fun X cx hmn hno ex => by
    exact s_X7_in_0 cx ex hno h)
set_option maxHeartbeats 2000000 in
theorem s_X7_isPath_39 {X : zX} {A : Nat → Prop} {G : zG} {Om : Heap → Prop} {t0 : Int32} {K : Int32 → Prop} (cx : Cx X cX7_isPath 1 RX7 (some .boolean) 1 22 0 0 A G) (ex : zGoal X (zqI Om K) zxN A 0 0) (hno : ∀ x ∈ (zC X).exceptionTable.toList, False)
    (h : w_X7_isPath_39 t0 K) : Z X 1 A Om 0 0 39 [] [.int t0] := by
  unfold w_X7_isPath_39 at h
  obtain ⟨hb, h⟩ := h
  exact z_zret cx ex dX7_isPath_39 hb (fun H hO => ⟨_, rfl, h, hO⟩) (Nat.le_of_ble_eq_true rfl) (Nat.le_of_ble_eq_true rfl)
set_option maxHeartbeats 2000000 in
theorem s_X7_isPath_38 {X : zX} {A : Nat → Prop} {G : zG} {Om : Heap → Prop}  {K : Int32 → Prop} (cx : Cx X cX7_isPath 1 RX7 (some .boolean) 1 22 0 0 A G) (ex : zGoal X (zqI Om K) zxN A 0 0) (hno : ∀ x ∈ (zC X).exceptionTable.toList, False)
    (h : w_X7_isPath_38 K) : Z X 1 A Om 0 0 38 [] [] := by
  unfold w_X7_isPath_38 at h
  refine z_iconst (v := 0) cx dX7_isPath_38 rfl ?_
  exact s_X7_isPath_39 cx ex hno h
set_option maxHeartbeats 2000000 in
theorem s_X7_isPath_34 {X : zX} {A : Nat → Prop} {G : zG} {Om : Heap → Prop}  {K : Int32 → Prop} (cx : Cx X cX7_isPath 1 RX7 (some .boolean) 1 22 0 0 A G) (ex : zGoal X (zqI Om K) zxN A 0 0) (hno : ∀ x ∈ (zC X).exceptionTable.toList, False)
    (h : w_X7_isPath_34 K) : Z X 1 A Om 0 0 34 [] [] := by
  unfold w_X7_isPath_34 at h
  refine z_iconst (v := 1) cx dX7_isPath_34 rfl ?_
  refine z_goto cx 39 dX7_isPath_35 (by decide) ?_
  exact s_X7_isPath_39 cx ex hno h
set_option maxHeartbeats 2000000 in
theorem s_X7_isPath_0 {X : zX} {A : Nat → Prop} {G : zG} {Om : Heap → Prop} {x0 : Int32} {K : Int32 → Prop} (cx : Cx X cX7_isPath 1 RX7 (some .boolean) 1 22 0 0 A G) (ex : zGoal X (zqI Om K) zxN A 0 0) (hno : ∀ x ∈ (zC X).exceptionTable.toList, False)
    (h : w_X7_isPath_0 x0 K) : Z X 1 A Om 0 0 0 [(0, .int x0)] [] := by
  unfold w_X7_isPath_0 at h
  refine z_iload_n cx dX7_isPath_0 rfl 0 rfl ?_
  refine z_iconst (v := 1) cx dX7_isPath_1 rfl ?_
  refine z_sipush (v := 999) cx dX7_isPath_2 (by decide) ?_
  refine z_callS (rest := []) cx (c_X7_in cx.quiet h) q1764 q1765 q99 q1766 rfl yd_X7_in (Nat.le_of_ble_eq_true rfl) (Nat.le_of_ble_eq_true rfl) (Nat.le_of_ble_eq_true rfl) (Nat.le_of_ble_eq_true rfl) (Nat.le_of_ble_eq_true rfl) dX7_isPath_5 rfl zx_none (zo_qI fun g5 h => ?_)
  refine z_if_eq cx 38 dX7_isPath_8 (by decide) (fun hc => ?_) (fun hc => ?_)
  · have h := h.1 hc
    refine Z.sub (lv2 := []) [] rfl ?_
    exact s_X7_isPath_38 cx ex hno h
  · have h := h.2 hc
    refine z_iload_n cx dX7_isPath_11 rfl 0 rfl ?_
    refine z_bipush (v := 10) cx dX7_isPath_12 (by decide) ?_
    refine z_irem cx dX7_isPath_14 (by decide) ?_
    refine z_if_le cx 38 dX7_isPath_15 (by decide) (fun hc => ?_) (fun hc => ?_)
    · have h := h.1 hc
      refine Z.sub (lv2 := []) [] rfl ?_
      exact s_X7_isPath_38 cx ex hno h
    · have h := h.2 hc
      refine z_iload_n cx dX7_isPath_18 rfl 0 rfl ?_
      refine z_bipush (v := 10) cx dX7_isPath_19 (by decide) ?_
      refine z_icmp_lt cx 34 dX7_isPath_21 (by decide) (fun hc => ?_) (fun hc => ?_)
      · have h := h.1 hc
        refine Z.sub (lv2 := []) [] rfl ?_
        exact s_X7_isPath_34 cx ex hno h
      · have h := h.2 hc
        refine z_iload_n cx dX7_isPath_24 rfl 0 rfl ?_
        refine z_bipush (v := 10) cx dX7_isPath_25 (by decide) ?_
        refine z_idiv cx dX7_isPath_27 (by decide) ?_
        refine z_bipush (v := 10) cx dX7_isPath_28 (by decide) ?_
        refine z_irem cx dX7_isPath_30 (by decide) ?_
        refine z_if_le cx 38 dX7_isPath_31 (by decide) (fun hc => ?_) (fun hc => ?_)
        · have h := h.1 hc
          refine Z.sub (lv2 := []) [] rfl ?_
          exact s_X7_isPath_38 cx ex hno h
        · have h := h.2 hc
          refine Z.sub (lv2 := []) [] rfl ?_
          exact s_X7_isPath_34 cx ex hno h
set_option maxHeartbeats 2000000 in
theorem c_X7_isPath {l : Launch} (hl : l.stackTraces = false) {A : Nat → Prop} {G : zG} {Om : Heap → Prop} {x0 : Int32} {K : Int32 → Prop}  (h : w_X7_isPath_0 x0 K) : Con l yX7_isPath cX7_isPath 1 (some .boolean) 1 22 0 0 A G [.int x0] Om (zqI Om K) zxN :=
  Con.of hl (by decide +kernel) (Nat.le_of_ble_eq_true rfl) [(0, .int x0)] rfl rfl (fun X cx hmn hno ex => by
    exact s_X7_isPath_0 cx ex hno h)
set_option maxHeartbeats 2000000 in
theorem s_X7_isWithin_33 {X : zX} {A : Nat → Prop} {G : zG} {Om : Heap → Prop} {t0 : Int32} {K : Int32 → Prop} (cx : Cx X cX7_isWithin 2 RX7 (some .boolean) 0 0 0 0 A G) (ex : zGoal X (zqI Om K) zxN A 0 0) (hno : ∀ x ∈ (zC X).exceptionTable.toList, False)
    (h : w_X7_isWithin_33 t0 K) : Z X 2 A Om 0 0 33 [] [.int t0] := by
  unfold w_X7_isWithin_33 at h
  obtain ⟨hb, h⟩ := h
  exact z_zret cx ex dX7_isWithin_33 hb (fun H hO => ⟨_, rfl, h, hO⟩) (Nat.le_of_ble_eq_true rfl) (Nat.le_of_ble_eq_true rfl)
set_option maxHeartbeats 2000000 in
theorem s_X7_isWithin_32 {X : zX} {A : Nat → Prop} {G : zG} {Om : Heap → Prop}  {K : Int32 → Prop} (cx : Cx X cX7_isWithin 2 RX7 (some .boolean) 0 0 0 0 A G) (ex : zGoal X (zqI Om K) zxN A 0 0) (hno : ∀ x ∈ (zC X).exceptionTable.toList, False)
    (h : w_X7_isWithin_32 K) : Z X 2 A Om 0 0 32 [] [] := by
  unfold w_X7_isWithin_32 at h
  refine z_iconst (v := 0) cx dX7_isWithin_32 rfl ?_
  exact s_X7_isWithin_33 cx ex hno h
set_option maxHeartbeats 2000000 in
theorem s_X7_isWithin_28 {X : zX} {A : Nat → Prop} {G : zG} {Om : Heap → Prop}  {K : Int32 → Prop} (cx : Cx X cX7_isWithin 2 RX7 (some .boolean) 0 0 0 0 A G) (ex : zGoal X (zqI Om K) zxN A 0 0) (hno : ∀ x ∈ (zC X).exceptionTable.toList, False)
    (h : w_X7_isWithin_28 K) : Z X 2 A Om 0 0 28 [] [] := by
  unfold w_X7_isWithin_28 at h
  refine z_iconst (v := 1) cx dX7_isWithin_28 rfl ?_
  refine z_goto cx 33 dX7_isWithin_29 (by decide) ?_
  exact s_X7_isWithin_33 cx ex hno h
set_option maxHeartbeats 2000000 in
theorem s_X7_isWithin_14 {X : zX} {A : Nat → Prop} {G : zG} {Om : Heap → Prop} {x0 : Int32} {x1 : Int32} {K : Int32 → Prop} (cx : Cx X cX7_isWithin 2 RX7 (some .boolean) 0 0 0 0 A G) (ex : zGoal X (zqI Om K) zxN A 0 0) (hno : ∀ x ∈ (zC X).exceptionTable.toList, False)
    (h : w_X7_isWithin_14 x0 x1 K) : Z X 2 A Om 0 0 14 [(0, .int x0), (1, .int x1)] [] := by
  unfold w_X7_isWithin_14 at h
  refine z_iload_n cx dX7_isWithin_14 rfl 0 rfl ?_
  refine z_bipush (v := 100) cx dX7_isWithin_15 (by decide) ?_
  refine z_idiv cx dX7_isWithin_17 (by decide) ?_
  refine z_iload_n cx dX7_isWithin_18 rfl 1 rfl ?_
  refine z_icmp_ne cx 32 dX7_isWithin_19 (by decide) (fun hc => ?_) (fun hc => ?_)
  · have h := h.1 hc
    refine Z.sub (lv2 := []) [] rfl ?_
    exact s_X7_isWithin_32 cx ex hno h
  · have h := h.2 hc
    refine z_iload_n cx dX7_isWithin_22 rfl 0 rfl ?_
    refine z_bipush (v := 99) cx dX7_isWithin_23 (by decide) ?_
    refine z_icmp_le cx 32 dX7_isWithin_25 (by decide) (fun hc => ?_) (fun hc => ?_)
    · have h := h.1 hc
      refine Z.sub (lv2 := []) [] rfl ?_
      exact s_X7_isWithin_32 cx ex hno h
    · have h := h.2 hc
      refine Z.sub (lv2 := []) [] rfl ?_
      exact s_X7_isWithin_28 cx ex hno h
set_option maxHeartbeats 2000000 in
theorem s_X7_isWithin_0 {X : zX} {A : Nat → Prop} {G : zG} {Om : Heap → Prop} {x0 : Int32} {x1 : Int32} {K : Int32 → Prop} (cx : Cx X cX7_isWithin 2 RX7 (some .boolean) 0 0 0 0 A G) (ex : zGoal X (zqI Om K) zxN A 0 0) (hno : ∀ x ∈ (zC X).exceptionTable.toList, False)
    (h : w_X7_isWithin_0 x0 x1 K) : Z X 2 A Om 0 0 0 [(0, .int x0), (1, .int x1)] [] := by
  unfold w_X7_isWithin_0 at h
  refine z_iload_n cx dX7_isWithin_0 rfl 0 rfl ?_
  refine z_bipush (v := 10) cx dX7_isWithin_1 (by decide) ?_
  refine z_idiv cx dX7_isWithin_3 (by decide) ?_
  refine z_iload_n cx dX7_isWithin_4 rfl 1 rfl ?_
  refine z_icmp_ne cx 14 dX7_isWithin_5 (by decide) (fun hc => ?_) (fun hc => ?_)
  · have h := h.1 hc
    exact s_X7_isWithin_14 cx ex hno h
  · have h := h.2 hc
    refine z_iload_n cx dX7_isWithin_8 rfl 0 rfl ?_
    refine z_bipush (v := 9) cx dX7_isWithin_9 (by decide) ?_
    refine z_icmp_gt cx 28 dX7_isWithin_11 (by decide) (fun hc => ?_) (fun hc => ?_)
    · have h := h.1 hc
      refine Z.sub (lv2 := []) [] rfl ?_
      exact s_X7_isWithin_28 cx ex hno h
    · have h := h.2 hc
      exact s_X7_isWithin_14 cx ex hno h
set_option maxHeartbeats 2000000 in
theorem c_X7_isWithin {l : Launch} (hl : l.stackTraces = false) {A : Nat → Prop} {G : zG} {Om : Heap → Prop} {x0 : Int32} {x1 : Int32} {K : Int32 → Prop}  (h : w_X7_isWithin_0 x0 x1 K) : Con l yX7_isWithin cX7_isWithin 2 (some .boolean) 0 0 0 0 A G [.int x0, .int x1] Om (zqI Om K) zxN :=
  Con.of hl (by decide +kernel) (Nat.le_of_ble_eq_true rfl) [(0, .int x0), (1, .int x1)] rfl rfl (fun X cx hmn hno ex => by
    exact s_X7_isWithin_0 cx ex hno h)
set_option maxHeartbeats 2000000 in
theorem s_X7_isImage_0 {X : zX} {A : Nat → Prop} {G : zG} {m : Nat} {mad : Nat → Nat} {M : zMS} {x1 : Int32} {K : Int32 → Prop} (cx : Cx X cX7_isImage 2 RX7 (some .boolean) 1 22 0 0 A G) (ex : zGoal X (zqI (WM G m mad M) K) zxN A 0 0) (hno : ∀ x ∈ (zC X).exceptionTable.toList, False) (ok : zmOK A m mad)
    (h : w_X7_isImage_0 M x1 K) : Z X 2 A (WM G m mad M) 0 0 0 [(0, .ref m), (1, .int x1)] [] := by
  unfold w_X7_isImage_0 at h
  refine z_iload_n cx dX7_isImage_0 rfl 1 rfl ?_
  refine z_iconst (v := 0) cx dX7_isImage_1 rfl ?_
  refine z_aload_n cx dX7_isImage_2 rfl 0 rfl ?_
  refine zm_get cx 15 rfl q1550 rfl rfl dX7_isImage_3 ?_
  refine z_iconst (v := 1) cx dX7_isImage_6 rfl ?_
  refine z_isub cx dX7_isImage_7 ?_
  refine z_callS (rest := []) cx (c_X7_in cx.quiet h) q1764 q1765 q99 q1766 rfl yd_X7_in (Nat.le_of_ble_eq_true rfl) (Nat.le_of_ble_eq_true rfl) (Nat.le_of_ble_eq_true rfl) (Nat.le_of_ble_eq_true rfl) (Nat.le_of_ble_eq_true rfl) dX7_isImage_8 rfl zx_none (zo_qI fun g8 h => ?_)
  obtain ⟨hb, h⟩ := h
  exact z_zret cx ex dX7_isImage_11 hb (fun H hO => ⟨_, rfl, h, hO⟩) (Nat.le_of_ble_eq_true rfl) (Nat.le_of_ble_eq_true rfl)
set_option maxHeartbeats 2000000 in
theorem c_X7_isImage {l : Launch} (hl : l.stackTraces = false) {A : Nat → Prop} {G : zG} {m : Nat} {mad : Nat → Nat} {M : zMS} {x1 : Int32} {K : Int32 → Prop} (ok : zmOK A m mad) (h : w_X7_isImage_0 M x1 K) : Con l yX7_isImage cX7_isImage 2 (some .boolean) 1 22 0 0 A G [.ref m, .int x1] (WM G m mad M) (zqI (WM G m mad M) K) zxN :=
  Con.of hl (by decide +kernel) (Nat.le_of_ble_eq_true rfl) [(0, .ref m), (1, .int x1)] rfl rfl (fun X cx hmn hno ex => by
    exact s_X7_isImage_0 cx ex hno ok h)
set_option maxHeartbeats 2000000 in
theorem s_X7_first_17 {X : zX} {A : Nat → Prop} {G : zG} {m : Nat} {mad : Nat → Nat} {M : zMS} {t0 : Int32} {K : Int32 → Prop} (cx : Cx X cX7_first 2 RX7 (some .int) 0 0 0 0 A G) (ex : zGoal X (zqI (WM G m mad M) K) zxN A 0 0) (hno : ∀ x ∈ (zC X).exceptionTable.toList, False) (ok : zmOK A m mad)
    (h : w_X7_first_17 M t0 K) : Z X 2 A (WM G m mad M) 0 0 17 [] [.int t0] := by
  unfold w_X7_first_17 at h
  exact z_iret cx ex dX7_first_17 (fun H hO => ⟨_, rfl, h, hO⟩) (Nat.le_of_ble_eq_true rfl) (Nat.le_of_ble_eq_true rfl)
set_option maxHeartbeats 2000000 in
theorem s_X7_first_0 {X : zX} {A : Nat → Prop} {G : zG} {m : Nat} {mad : Nat → Nat} {M : zMS} {x1 : Int32} {K : Int32 → Prop} (cx : Cx X cX7_first 2 RX7 (some .int) 0 0 0 0 A G) (ex : zGoal X (zqI (WM G m mad M) K) zxN A 0 0) (hno : ∀ x ∈ (zC X).exceptionTable.toList, False) (ok : zmOK A m mad)
    (h : w_X7_first_0 M x1 K) : Z X 2 A (WM G m mad M) 0 0 0 [(0, .ref m), (1, .int x1)] [] := by
  unfold w_X7_first_0 at h
  refine z_iload_n cx dX7_first_0 rfl 1 rfl ?_
  refine z_if_ge cx 13 dX7_first_1 (by decide) (fun hc => ?_) (fun hc => ?_)
  · have h := h.1 hc
    refine z_bipush (v := 10) cx dX7_first_13 (by decide) ?_
    refine z_iload_n cx dX7_first_15 rfl 1 rfl ?_
    refine z_imul cx dX7_first_16 ?_
    refine Z.sub (lv2 := []) [] rfl ?_
    exact s_X7_first_17 cx ex hno ok h
  · have h := h.2 hc
    refine z_bipush (v := 24) cx dX7_first_4 (by decide) ?_
    refine z_iconst (v := (-1)) cx dX7_first_6 rfl ?_
    refine z_iload_n cx dX7_first_7 rfl 1 rfl ?_
    refine z_isub cx dX7_first_8 ?_
    refine z_imul cx dX7_first_9 ?_
    refine z_goto cx 17 dX7_first_10 (by decide) ?_
    refine Z.sub (lv2 := []) [] rfl ?_
    exact s_X7_first_17 cx ex hno ok h
set_option maxHeartbeats 2000000 in
theorem c_X7_first {l : Launch} (hl : l.stackTraces = false) {A : Nat → Prop} {G : zG} {m : Nat} {mad : Nat → Nat} {M : zMS} {x1 : Int32} {K : Int32 → Prop} (ok : zmOK A m mad) (h : w_X7_first_0 M x1 K) : Con l yX7_first cX7_first 2 (some .int) 0 0 0 0 A G [.ref m, .int x1] (WM G m mad M) (zqI (WM G m mad M) K) zxN :=
  Con.of hl (by decide +kernel) (Nat.le_of_ble_eq_true rfl) [(0, .ref m), (1, .int x1)] rfl rfl (fun X cx hmn hno ex => by
    exact s_X7_first_0 cx ex hno ok h)
set_option maxHeartbeats 2000000 in
theorem s_X7_many_21 {X : zX} {A : Nat → Prop} {G : zG} {m : Nat} {mad : Nat → Nat} {M : zMS} {t0 : Int32} {K : Int32 → Prop} (cx : Cx X cX7_many 2 RX7 (some .int) 0 0 0 0 A G) (ex : zGoal X (zqI (WM G m mad M) K) zxN A 0 0) (hno : ∀ x ∈ (zC X).exceptionTable.toList, False) (ok : zmOK A m mad)
    (h : w_X7_many_21 M t0 K) : Z X 2 A (WM G m mad M) 0 0 21 [] [.int t0] := by
  unfold w_X7_many_21 at h
  exact z_iret cx ex dX7_many_21 (fun H hO => ⟨_, rfl, h, hO⟩) (Nat.le_of_ble_eq_true rfl) (Nat.le_of_ble_eq_true rfl)
set_option maxHeartbeats 2000000 in
theorem s_X7_many_0 {X : zX} {A : Nat → Prop} {G : zG} {m : Nat} {mad : Nat → Nat} {M : zMS} {x1 : Int32} {K : Int32 → Prop} (cx : Cx X cX7_many 2 RX7 (some .int) 0 0 0 0 A G) (ex : zGoal X (zqI (WM G m mad M) K) zxN A 0 0) (hno : ∀ x ∈ (zC X).exceptionTable.toList, False) (ok : zmOK A m mad)
    (h : w_X7_many_0 M x1 K) : Z X 2 A (WM G m mad M) 0 0 0 [(0, .ref m), (1, .int x1)] [] := by
  unfold w_X7_many_0 at h
  refine z_iload_n cx dX7_many_0 rfl 1 rfl ?_
  refine z_if_ge cx 15 dX7_many_1 (by decide) (fun hc => ?_) (fun hc => ?_)
  · have h := h.1 hc
    refine z_aload_n cx dX7_many_15 rfl 0 rfl ?_
    refine zm_get cx 3 rfl q1538 rfl rfl dX7_many_16 ?_
    refine z_iload_n cx dX7_many_19 rfl 1 rfl ?_
    obtain ⟨hin, h⟩ := h
    refine zm_iald cx 3 (n := 20) rfl rfl hin dX7_many_20 ?_
    refine Z.sub (lv2 := []) [] rfl ?_
    exact s_X7_many_21 cx ex hno ok h
  · have h := h.2 hc
    refine z_aload_n cx dX7_many_4 rfl 0 rfl ?_
    refine zm_get cx 27 rfl q1562 rfl rfl dX7_many_5 ?_
    refine z_iconst (v := (-1)) cx dX7_many_8 rfl ?_
    refine z_iload_n cx dX7_many_9 rfl 1 rfl ?_
    refine z_isub cx dX7_many_10 ?_
    obtain ⟨hin, h⟩ := h
    refine zm_iald cx 27 (n := 8) rfl rfl hin dX7_many_11 ?_
    refine z_goto cx 21 dX7_many_12 (by decide) ?_
    refine Z.sub (lv2 := []) [] rfl ?_
    exact s_X7_many_21 cx ex hno ok h
set_option maxHeartbeats 2000000 in
theorem c_X7_many {l : Launch} (hl : l.stackTraces = false) {A : Nat → Prop} {G : zG} {m : Nat} {mad : Nat → Nat} {M : zMS} {x1 : Int32} {K : Int32 → Prop} (ok : zmOK A m mad) (h : w_X7_many_0 M x1 K) : Con l yX7_many cX7_many 2 (some .int) 0 0 0 0 A G [.ref m, .int x1] (WM G m mad M) (zqI (WM G m mad M) K) zxN :=
  Con.of hl (by decide +kernel) (Nat.le_of_ble_eq_true rfl) [(0, .ref m), (1, .int x1)] rfl rfl (fun X cx hmn hno ex => by
    exact s_X7_many_0 cx ex hno ok h)
set_option maxHeartbeats 2000000 in
theorem s_X7_pathAt_19 {X : zX} {A : Nat → Prop} {G : zG} {m : Nat} {mad : Nat → Nat} {M : zMS} {t0 : Int32} {K : Int32 → Prop} (cx : Cx X cX7_pathAt 3 RX7 (some .int) 0 0 0 0 A G) (ex : zGoal X (zqI (WM G m mad M) K) zxN A 0 0) (hno : ∀ x ∈ (zC X).exceptionTable.toList, False) (ok : zmOK A m mad)
    (h : w_X7_pathAt_19 M t0 K) : Z X 3 A (WM G m mad M) 0 0 19 [] [.int t0] := by
  unfold w_X7_pathAt_19 at h
  exact z_iret cx ex dX7_pathAt_19 (fun H hO => ⟨_, rfl, h, hO⟩) (Nat.le_of_ble_eq_true rfl) (Nat.le_of_ble_eq_true rfl)
set_option maxHeartbeats 2000000 in
theorem s_X7_pathAt_0 {X : zX} {A : Nat → Prop} {G : zG} {m : Nat} {mad : Nat → Nat} {M : zMS} {x1 : Int32} {x2 : Int32} {K : Int32 → Prop} (cx : Cx X cX7_pathAt 3 RX7 (some .int) 0 0 0 0 A G) (ex : zGoal X (zqI (WM G m mad M) K) zxN A 0 0) (hno : ∀ x ∈ (zC X).exceptionTable.toList, False) (ok : zmOK A m mad)
    (h : w_X7_pathAt_0 M x1 x2 K) : Z X 3 A (WM G m mad M) 0 0 0 [(0, .ref m), (1, .int x1), (2, .int x2)] [] := by
  unfold w_X7_pathAt_0 at h
  refine z_iload_n cx dX7_pathAt_0 rfl 1 rfl ?_
  refine z_if_ge cx 13 dX7_pathAt_1 (by decide) (fun hc => ?_) (fun hc => ?_)
  · have h := h.1 hc
    refine z_aload_n cx dX7_pathAt_13 rfl 0 rfl ?_
    refine zm_get cx 4 rfl q1539 rfl rfl dX7_pathAt_14 ?_
    refine z_iload_n cx dX7_pathAt_17 rfl 2 rfl ?_
    obtain ⟨hin, h⟩ := h
    refine zm_iald cx 4 (n := 200) rfl rfl hin dX7_pathAt_18 ?_
    refine Z.sub (lv2 := []) [] rfl ?_
    exact s_X7_pathAt_19 cx ex hno ok h
  · have h := h.2 hc
    refine z_aload_n cx dX7_pathAt_4 rfl 0 rfl ?_
    refine zm_get cx 28 rfl q1563 rfl rfl dX7_pathAt_5 ?_
    refine z_iload_n cx dX7_pathAt_8 rfl 2 rfl ?_
    obtain ⟨hin, h⟩ := h
    refine zm_iald cx 28 (n := 192) rfl rfl hin dX7_pathAt_9 ?_
    refine z_goto cx 19 dX7_pathAt_10 (by decide) ?_
    refine Z.sub (lv2 := []) [] rfl ?_
    exact s_X7_pathAt_19 cx ex hno ok h
set_option maxHeartbeats 2000000 in
theorem c_X7_pathAt {l : Launch} (hl : l.stackTraces = false) {A : Nat → Prop} {G : zG} {m : Nat} {mad : Nat → Nat} {M : zMS} {x1 : Int32} {x2 : Int32} {K : Int32 → Prop} (ok : zmOK A m mad) (h : w_X7_pathAt_0 M x1 x2 K) : Con l yX7_pathAt cX7_pathAt 3 (some .int) 0 0 0 0 A G [.ref m, .int x1, .int x2] (WM G m mad M) (zqI (WM G m mad M) K) zxN :=
  Con.of hl (by decide +kernel) (Nat.le_of_ble_eq_true rfl) [(0, .ref m), (1, .int x1), (2, .int x2)] rfl rfl (fun X cx hmn hno ex => by
    exact s_X7_pathAt_0 cx ex hno ok h)
set_option maxHeartbeats 2000000 in
theorem s_X7_fails_0 {X : zX} {A : Nat → Prop} {G : zG} {m : Nat} {mad : Nat → Nat} {M : zMS} {x1 : Int32} {K : Int32 → zMS → Prop} (cx : Cx X cX7_fails 2 RX7 (some .int) 0 0 0 0 A G) (ex : zGoal X (zpI (WM G m mad) K) zxN A 0 0) (hno : ∀ x ∈ (zC X).exceptionTable.toList, False) (ok : zmOK A m mad)
    (h : w_X7_fails_0 M x1 K) : Z X 2 A (WM G m mad M) 0 0 0 [(0, .ref m), (1, .int x1)] [] := by
  unfold w_X7_fails_0 at h
  refine z_aload_n cx dX7_fails_0 rfl 0 rfl ?_
  refine z_iload_n cx dX7_fails_1 rfl 1 rfl ?_
  have h := h _ rfl
  refine zm_put cx ok 0 rfl q1535 rfl rfl (by decide +kernel) rfl dX7_fails_2 ?_
  refine z_iconst (v := 0) cx dX7_fails_5 rfl ?_
  exact z_iret cx ex dX7_fails_6 (fun H hO => ⟨_, _, rfl, h, hO⟩) (Nat.le_of_ble_eq_true rfl) (Nat.le_of_ble_eq_true rfl)
set_option maxHeartbeats 2000000 in
theorem c_X7_fails {l : Launch} (hl : l.stackTraces = false) {A : Nat → Prop} {G : zG} {m : Nat} {mad : Nat → Nat} {M : zMS} {x1 : Int32} {K : Int32 → zMS → Prop} (ok : zmOK A m mad) (h : w_X7_fails_0 M x1 K) : Con l yX7_fails cX7_fails 2 (some .int) 0 0 0 0 A G [.ref m, .int x1] (WM G m mad M) (zpI (WM G m mad) K) zxN :=
  Con.of hl (by decide +kernel) (Nat.le_of_ble_eq_true rfl) [(0, .ref m), (1, .int x1)] rfl rfl (fun X cx hmn hno ex => by
    exact s_X7_fails_0 cx ex hno ok h)
set_option maxHeartbeats 2000000 in
theorem s_X7_sourceAt_45 {X : zX} {A : Nat → Prop} {G : zG} {m : Nat} {mad : Nat → Nat} {M : zMS} {t0 : Int32} {K : Int32 → Prop} (cx : Cx X cX7_sourceAt 4 RX7 (some .int) 0 0 0 0 A G) (ex : zGoal X (zqI (WM G m mad M) K) zxN A 0 0) (hno : ∀ x ∈ (zC X).exceptionTable.toList, False) (ok : zmOK A m mad)
    (h : w_X7_sourceAt_45 M t0 K) : Z X 4 A (WM G m mad M) 0 0 45 [] [.int t0] := by
  unfold w_X7_sourceAt_45 at h
  exact z_iret cx ex dX7_sourceAt_45 (fun H hO => ⟨_, rfl, h, hO⟩) (Nat.le_of_ble_eq_true rfl) (Nat.le_of_ble_eq_true rfl)
set_option maxHeartbeats 2000000 in
theorem s_X7_sourceAt_43 {X : zX} {A : Nat → Prop} {G : zG} {m : Nat} {mad : Nat → Nat} {M : zMS} {t1 : Int32} {t2 : Int32} {K : Int32 → Prop} (cx : Cx X cX7_sourceAt 4 RX7 (some .int) 0 0 0 0 A G) (ex : zGoal X (zqI (WM G m mad M) K) zxN A 0 0) (hno : ∀ x ∈ (zC X).exceptionTable.toList, False) (ok : zmOK A m mad)
    (h : w_X7_sourceAt_43 M t1 t2 K) : Z X 4 A (WM G m mad M) 0 0 43 [] [.int t2, .int t1, .ref (mad 17)] := by
  unfold w_X7_sourceAt_43 at h
  refine z_isub cx dX7_sourceAt_43 ?_
  obtain ⟨hin, h⟩ := h
  refine zm_iald cx 17 (n := 60) rfl rfl hin dX7_sourceAt_44 ?_
  exact s_X7_sourceAt_45 cx ex hno ok h
set_option maxHeartbeats 2000000 in
theorem s_X7_sourceAt_15 {X : zX} {A : Nat → Prop} {G : zG} {m : Nat} {mad : Nat → Nat} {M : zMS} {x1 : Int32} {x2 : Int32} {x3 : Int32} {K : Int32 → Prop} (cx : Cx X cX7_sourceAt 4 RX7 (some .int) 0 0 0 0 A G) (ex : zGoal X (zqI (WM G m mad M) K) zxN A 0 0) (hno : ∀ x ∈ (zC X).exceptionTable.toList, False) (ok : zmOK A m mad)
    (h : w_X7_sourceAt_15 M x1 x2 x3 K) : Z X 4 A (WM G m mad M) 0 0 15 [(0, .ref m), (1, .int x1), (2, .int x2), (3, .int x3)] [] := by
  unfold w_X7_sourceAt_15 at h
  refine z_aload_n cx dX7_sourceAt_15 rfl 0 rfl ?_
  refine zm_get cx 17 rfl q1552 rfl rfl dX7_sourceAt_16 ?_
  refine z_iconst (v := 5) cx dX7_sourceAt_19 rfl ?_
  refine z_iload_n cx dX7_sourceAt_20 rfl 1 rfl ?_
  refine z_imul cx dX7_sourceAt_21 ?_
  refine z_aload_n cx dX7_sourceAt_22 rfl 0 rfl ?_
  refine zm_get cx 16 rfl q1551 rfl rfl dX7_sourceAt_23 ?_
  refine z_iload_n cx dX7_sourceAt_26 rfl 1 rfl ?_
  obtain ⟨hin, h⟩ := h
  refine zm_iald cx 16 (n := 12) rfl rfl hin dX7_sourceAt_27 ?_
  refine z_iadd cx dX7_sourceAt_28 ?_
  refine z_iconst (v := 1) cx dX7_sourceAt_29 rfl ?_
  refine z_isub cx dX7_sourceAt_30 ?_
  refine z_iload_n cx dX7_sourceAt_31 rfl 2 rfl ?_
  refine z_iconst (v := (-1)) cx dX7_sourceAt_32 rfl ?_
  refine z_icmp_ne cx 40 dX7_sourceAt_33 (by decide) (fun hc => ?_) (fun hc => ?_)
  · have h := h.1 hc
    refine z_iload_n cx dX7_sourceAt_40 rfl 3 rfl ?_
    refine z_iconst (v := 1) cx dX7_sourceAt_41 rfl ?_
    refine z_isub cx dX7_sourceAt_42 ?_
    refine Z.sub (lv2 := []) [] rfl ?_
    exact s_X7_sourceAt_43 cx ex hno ok h
  · have h := h.2 hc
    refine z_iload_n cx dX7_sourceAt_36 rfl 3 rfl ?_
    refine z_goto cx 43 dX7_sourceAt_37 (by decide) ?_
    refine Z.sub (lv2 := []) [] rfl ?_
    exact s_X7_sourceAt_43 cx ex hno ok h
set_option maxHeartbeats 2000000 in
theorem s_X7_sourceAt_0 {X : zX} {A : Nat → Prop} {G : zG} {m : Nat} {mad : Nat → Nat} {M : zMS} {x1 : Int32} {x2 : Int32} {x3 : Int32} {K : Int32 → Prop} (cx : Cx X cX7_sourceAt 4 RX7 (some .int) 0 0 0 0 A G) (ex : zGoal X (zqI (WM G m mad M) K) zxN A 0 0) (hno : ∀ x ∈ (zC X).exceptionTable.toList, False) (ok : zmOK A m mad)
    (h : w_X7_sourceAt_0 M x1 x2 x3 K) : Z X 4 A (WM G m mad M) 0 0 0 [(0, .ref m), (1, .int x1), (2, .int x2), (3, .int x3)] [] := by
  unfold w_X7_sourceAt_0 at h
  refine z_iload_n cx dX7_sourceAt_0 rfl 2 rfl ?_
  refine z_iconst (v := (-1)) cx dX7_sourceAt_1 rfl ?_
  refine z_icmp_eq cx 15 dX7_sourceAt_2 (by decide) (fun hc => ?_) (fun hc => ?_)
  · have h := h.1 hc
    exact s_X7_sourceAt_15 cx ex hno ok h
  · have h := h.2 hc
    refine z_iload_n cx dX7_sourceAt_5 rfl 3 rfl ?_
    refine z_if_ne cx 15 dX7_sourceAt_6 (by decide) (fun hc => ?_) (fun hc => ?_)
    · have h := h.1 hc
      exact s_X7_sourceAt_15 cx ex hno ok h
    · have h := h.2 hc
      refine z_iconst (v := (-1)) cx dX7_sourceAt_9 rfl ?_
      refine z_iload_n cx dX7_sourceAt_10 rfl 2 rfl ?_
      refine z_isub cx dX7_sourceAt_11 ?_
      refine z_goto cx 45 dX7_sourceAt_12 (by decide) ?_
      refine Z.sub (lv2 := []) [] rfl ?_
      exact s_X7_sourceAt_45 cx ex hno ok h
set_option maxHeartbeats 2000000 in
theorem c_X7_sourceAt {l : Launch} (hl : l.stackTraces = false) {A : Nat → Prop} {G : zG} {m : Nat} {mad : Nat → Nat} {M : zMS} {x1 : Int32} {x2 : Int32} {x3 : Int32} {K : Int32 → Prop} (ok : zmOK A m mad) (h : w_X7_sourceAt_0 M x1 x2 x3 K) : Con l yX7_sourceAt cX7_sourceAt 4 (some .int) 0 0 0 0 A G [.ref m, .int x1, .int x2, .int x3] (WM G m mad M) (zqI (WM G m mad M) K) zxN :=
  Con.of hl (by decide +kernel) (Nat.le_of_ble_eq_true rfl) [(0, .ref m), (1, .int x1), (2, .int x2), (3, .int x3)] rfl rfl (fun X cx hmn hno ex => by
    exact s_X7_sourceAt_0 cx ex hno ok h)
set_option maxHeartbeats 2000000 in
theorem s_X7_mounted_25 {X : zX} {A : Nat → Prop} {G : zG} {m : Nat} {mad : Nat → Nat} {M : zMS} {t0 : Int32} {K : Int32 → Prop} (cx : Cx X cX7_mounted 3 RX7 (some .int) 1 22 0 0 A G) (ex : zGoal X (zqI (WM G m mad M) K) zxN A 0 0) (hno : ∀ x ∈ (zC X).exceptionTable.toList, False) (ok : zmOK A m mad)
    (h : w_X7_mounted_25 M t0 K) : Z X 3 A (WM G m mad M) 0 0 25 [] [.int t0] := by
  unfold w_X7_mounted_25 at h
  exact z_iret cx ex dX7_mounted_25 (fun H hO => ⟨_, rfl, h, hO⟩) (Nat.le_of_ble_eq_true rfl) (Nat.le_of_ble_eq_true rfl)
set_option maxHeartbeats 2000000 in
theorem s_X7_mounted_0 {X : zX} {A : Nat → Prop} {G : zG} {m : Nat} {mad : Nat → Nat} {M : zMS} {x1 : Int32} {x2 : Int32} {K : Int32 → Prop} (cx : Cx X cX7_mounted 3 RX7 (some .int) 1 22 0 0 A G) (ex : zGoal X (zqI (WM G m mad M) K) zxN A 0 0) (hno : ∀ x ∈ (zC X).exceptionTable.toList, False) (ok : zmOK A m mad)
    (h : w_X7_mounted_0 M x1 x2 K) : Z X 3 A (WM G m mad M) 0 0 0 [(0, .ref m), (1, .int x1), (2, .int x2)] [] := by
  unfold w_X7_mounted_0 at h
  refine z_iload_n cx dX7_mounted_0 rfl 2 rfl ?_
  refine z_iconst (v := 1) cx dX7_mounted_1 rfl ?_
  refine z_bipush (v := 99) cx dX7_mounted_2 (by decide) ?_
  refine z_callS (rest := []) cx (c_X7_in cx.quiet h) q1764 q1765 q99 q1766 rfl yd_X7_in (Nat.le_of_ble_eq_true rfl) (Nat.le_of_ble_eq_true rfl) (Nat.le_of_ble_eq_true rfl) (Nat.le_of_ble_eq_true rfl) (Nat.le_of_ble_eq_true rfl) dX7_mounted_4 rfl zx_none (zo_qI fun g4 h => ?_)
  refine z_if_eq cx 24 dX7_mounted_7 (by decide) (fun hc => ?_) (fun hc => ?_)
  · have h := h.1 hc
    refine z_iconst (v := (-1)) cx dX7_mounted_24 rfl ?_
    refine Z.sub (lv2 := []) [] rfl ?_
    exact s_X7_mounted_25 cx ex hno ok h
  · have h := h.2 hc
    refine z_aload_n cx dX7_mounted_10 rfl 0 rfl ?_
    refine zm_get cx 34 rfl q1569 rfl rfl dX7_mounted_11 ?_
    refine z_bipush (v := 100) cx dX7_mounted_14 (by decide) ?_
    refine z_iload_n cx dX7_mounted_16 rfl 1 rfl ?_
    refine z_imul cx dX7_mounted_17 ?_
    refine z_iload_n cx dX7_mounted_18 rfl 2 rfl ?_
    refine z_iadd cx dX7_mounted_19 ?_
    obtain ⟨hin, h⟩ := h
    refine zm_iald cx 34 (n := 800) rfl rfl hin dX7_mounted_20 ?_
    refine z_goto cx 25 dX7_mounted_21 (by decide) ?_
    refine Z.sub (lv2 := []) [] rfl ?_
    exact s_X7_mounted_25 cx ex hno ok h
set_option maxHeartbeats 2000000 in
theorem c_X7_mounted {l : Launch} (hl : l.stackTraces = false) {A : Nat → Prop} {G : zG} {m : Nat} {mad : Nat → Nat} {M : zMS} {x1 : Int32} {x2 : Int32} {K : Int32 → Prop} (ok : zmOK A m mad) (h : w_X7_mounted_0 M x1 x2 K) : Con l yX7_mounted cX7_mounted 3 (some .int) 1 22 0 0 A G [.ref m, .int x1, .int x2] (WM G m mad M) (zqI (WM G m mad M) K) zxN :=
  Con.of hl (by decide +kernel) (Nat.le_of_ble_eq_true rfl) [(0, .ref m), (1, .int x1), (2, .int x2)] rfl rfl (fun X cx hmn hno ex => by
    exact s_X7_mounted_0 cx ex hno ok h)
set_option maxHeartbeats 2000000 in
theorem s_X7_isInVolume_31 {X : zX} {A : Nat → Prop} {G : zG} {m : Nat} {mad : Nat → Nat} {M : zMS} {t0 : Int32} {K : Int32 → Prop} (cx : Cx X cX7_isInVolume 3 RX7 (some .boolean) 2 44 0 0 A G) (ex : zGoal X (zqI (WM G m mad M) K) zxN A 0 0) (hno : ∀ x ∈ (zC X).exceptionTable.toList, False) (ok : zmOK A m mad)
    (h : w_X7_isInVolume_31 M t0 K) : Z X 3 A (WM G m mad M) 0 0 31 [] [.int t0] := by
  unfold w_X7_isInVolume_31 at h
  obtain ⟨hb, h⟩ := h
  exact z_zret cx ex dX7_isInVolume_31 hb (fun H hO => ⟨_, rfl, h, hO⟩) (Nat.le_of_ble_eq_true rfl) (Nat.le_of_ble_eq_true rfl)
set_option maxHeartbeats 2000000 in
theorem s_X7_isInVolume_26 {X : zX} {A : Nat → Prop} {G : zG} {m : Nat} {mad : Nat → Nat} {M : zMS} {K : Int32 → Prop} (cx : Cx X cX7_isInVolume 3 RX7 (some .boolean) 2 44 0 0 A G) (ex : zGoal X (zqI (WM G m mad M) K) zxN A 0 0) (hno : ∀ x ∈ (zC X).exceptionTable.toList, False) (ok : zmOK A m mad)
    (h : w_X7_isInVolume_26 M K) : Z X 3 A (WM G m mad M) 0 0 26 [] [] := by
  unfold w_X7_isInVolume_26 at h
  refine z_iconst (v := 1) cx dX7_isInVolume_26 rfl ?_
  refine z_goto cx 31 dX7_isInVolume_27 (by decide) ?_
  exact s_X7_isInVolume_31 cx ex hno ok h
set_option maxHeartbeats 2000000 in
theorem s_X7_isInVolume_0 {X : zX} {A : Nat → Prop} {G : zG} {m : Nat} {mad : Nat → Nat} {M : zMS} {x1 : Int32} {x2 : Int32} {K : Int32 → Prop} (cx : Cx X cX7_isInVolume 3 RX7 (some .boolean) 2 44 0 0 A G) (ex : zGoal X (zqI (WM G m mad M) K) zxN A 0 0) (hno : ∀ x ∈ (zC X).exceptionTable.toList, False) (ok : zmOK A m mad)
    (h : w_X7_isInVolume_0 M x1 x2 K) : Z X 3 A (WM G m mad M) 0 0 0 [(0, .ref m), (1, .int x1), (2, .int x2)] [] := by
  unfold w_X7_isInVolume_0 at h
  refine z_aload_n cx dX7_isInVolume_0 rfl 0 rfl ?_
  refine z_iload_n cx dX7_isInVolume_1 rfl 1 rfl ?_
  refine z_iload_n cx dX7_isInVolume_2 rfl 2 rfl ?_
  refine z_bipush (v := 10) cx dX7_isInVolume_3 (by decide) ?_
  refine z_idiv cx dX7_isInVolume_5 (by decide) ?_
  refine z_callV (C := RX7) (rest := []) cx (c_X7_mounted cx.quiet ok h) q1887 q1889 qs63 q99 q1890 (zrv_M cx) rfl ⟨rfl, yd_X7_mounted⟩ (Nat.le_of_ble_eq_true rfl) (Nat.le_of_ble_eq_true rfl) (Nat.le_of_ble_eq_true rfl) (Nat.le_of_ble_eq_true rfl) (Nat.le_of_ble_eq_true rfl) dX7_isInVolume_6 rfl zx_none (zo_qI fun g6 h => ?_)
  refine z_iconst (v := (-1)) cx dX7_isInVolume_9 rfl ?_
  refine z_icmp_ne cx 26 dX7_isInVolume_10 (by decide) (fun hc => ?_) (fun hc => ?_)
  · have h := h.1 hc
    refine Z.sub (lv2 := []) [] rfl ?_
    exact s_X7_isInVolume_26 cx ex hno ok h
  · have h := h.2 hc
    refine z_aload_n cx dX7_isInVolume_13 rfl 0 rfl ?_
    refine z_iload_n cx dX7_isInVolume_14 rfl 1 rfl ?_
    refine z_iload_n cx dX7_isInVolume_15 rfl 2 rfl ?_
    refine z_bipush (v := 100) cx dX7_isInVolume_16 (by decide) ?_
    refine z_idiv cx dX7_isInVolume_18 (by decide) ?_
    refine z_callV (C := RX7) (rest := []) cx (c_X7_mounted cx.quiet ok h) q1887 q1889 qs63 q99 q1890 (zrv_M cx) rfl ⟨rfl, yd_X7_mounted⟩ (Nat.le_of_ble_eq_true rfl) (Nat.le_of_ble_eq_true rfl) (Nat.le_of_ble_eq_true rfl) (Nat.le_of_ble_eq_true rfl) (Nat.le_of_ble_eq_true rfl) dX7_isInVolume_19 rfl zx_none (zo_qI fun g19 h => ?_)
    refine z_iconst (v := (-1)) cx dX7_isInVolume_22 rfl ?_
    refine z_icmp_eq cx 30 dX7_isInVolume_23 (by decide) (fun hc => ?_) (fun hc => ?_)
    · have h := h.1 hc
      refine z_iconst (v := 0) cx dX7_isInVolume_30 rfl ?_
      refine Z.sub (lv2 := []) [] rfl ?_
      exact s_X7_isInVolume_31 cx ex hno ok h
    · have h := h.2 hc
      refine Z.sub (lv2 := []) [] rfl ?_
      exact s_X7_isInVolume_26 cx ex hno ok h
set_option maxHeartbeats 2000000 in
theorem c_X7_isInVolume {l : Launch} (hl : l.stackTraces = false) {A : Nat → Prop} {G : zG} {m : Nat} {mad : Nat → Nat} {M : zMS} {x1 : Int32} {x2 : Int32} {K : Int32 → Prop} (ok : zmOK A m mad) (h : w_X7_isInVolume_0 M x1 x2 K) : Con l yX7_isInVolume cX7_isInVolume 3 (some .boolean) 2 44 0 0 A G [.ref m, .int x1, .int x2] (WM G m mad M) (zqI (WM G m mad M) K) zxN :=
  Con.of hl (by decide +kernel) (Nat.le_of_ble_eq_true rfl) [(0, .ref m), (1, .int x1), (2, .int x2)] rfl rfl (fun X cx hmn hno ex => by
    exact s_X7_isInVolume_0 cx ex hno ok h)
set_option maxHeartbeats 2000000 in
theorem s_X7_thrown_0 {X : zX} {A : Nat → Prop} {G : zG} {m : Nat} {mad : Nat → Nat} {M : zMS} {K : Int32 → Prop} (cx : Cx X cX7_thrown 1 RX7 (some .int) 0 0 0 0 A G) (ex : zGoal X (zqI (WM G m mad M) K) zxN A 0 0) (hno : ∀ x ∈ (zC X).exceptionTable.toList, False) (ok : zmOK A m mad)
    (h : w_X7_thrown_0 M K) : Z X 1 A (WM G m mad M) 0 0 0 [(0, .ref m)] [] := by
  unfold w_X7_thrown_0 at h
  refine z_aload_n cx dX7_thrown_0 rfl 0 rfl ?_
  refine zm_get cx 0 rfl q1535 rfl rfl dX7_thrown_1 ?_
  exact z_iret cx ex dX7_thrown_4 (fun H hO => ⟨_, rfl, h, hO⟩) (Nat.le_of_ble_eq_true rfl) (Nat.le_of_ble_eq_true rfl)
set_option maxHeartbeats 2000000 in
theorem c_X7_thrown {l : Launch} (hl : l.stackTraces = false) {A : Nat → Prop} {G : zG} {m : Nat} {mad : Nat → Nat} {M : zMS} {K : Int32 → Prop} (ok : zmOK A m mad) (h : w_X7_thrown_0 M K) : Con l yX7_thrown cX7_thrown 1 (some .int) 0 0 0 0 A G [.ref m] (WM G m mad M) (zqI (WM G m mad M) K) zxN :=
  Con.of hl (by decide +kernel) (Nat.le_of_ble_eq_true rfl) [(0, .ref m)] rfl rfl (fun X cx hmn hno ex => by
    exact s_X7_thrown_0 cx ex hno ok h)
set_option maxHeartbeats 2000000 in
theorem s_X7_moved_24 {X : zX} {A : Nat → Prop} {G : zG} {Om : Heap → Prop} {x0 : Int32} {x2 : Int32} {t0 : Int32} {K : Int32 → Prop} (cx : Cx X cX7_moved 4 RX7 (some .int) 0 0 0 0 A G) (ex : zGoal X (zqI Om K) zxN A 0 0) (hno : ∀ x ∈ (zC X).exceptionTable.toList, False)
    (h : w_X7_moved_24 x0 x2 t0 K) : Z X 4 A Om 0 0 24 [(0, .int x0), (2, .int x2)] [.int t0] := by
  unfold w_X7_moved_24 at h
  refine z_istore_n (lv2 := [(0, _), (2, _), (3, _)]) cx dX7_moved_24 rfl (by decide) rfl ?_
  refine z_iload_n cx dX7_moved_25 rfl 1 rfl ?_
  refine z_iload_n cx dX7_moved_26 rfl 2 rfl ?_
  refine z_imul cx dX7_moved_27 ?_
  refine z_iload_n cx dX7_moved_28 rfl 0 rfl ?_
  refine z_iload_n cx dX7_moved_29 rfl 2 rfl ?_
  obtain ⟨hne, h⟩ := h
  refine z_irem cx dX7_moved_30 hne ?_
  refine z_iadd cx dX7_moved_31 ?_
  exact z_iret cx ex dX7_moved_32 (fun H hO => ⟨_, rfl, h, hO⟩) (Nat.le_of_ble_eq_true rfl) (Nat.le_of_ble_eq_true rfl)
set_option maxHeartbeats 2000000 in
theorem s_X7_moved_0 {X : zX} {A : Nat → Prop} {G : zG} {Om : Heap → Prop} {x0 : Int32} {x1 : Int32} {x2 : Int32} {K : Int32 → Prop} (cx : Cx X cX7_moved 4 RX7 (some .int) 0 0 0 0 A G) (ex : zGoal X (zqI Om K) zxN A 0 0) (hno : ∀ x ∈ (zC X).exceptionTable.toList, False)
    (h : w_X7_moved_0 x0 x1 x2 K) : Z X 4 A Om 0 0 0 [(0, .int x0), (1, .int x1), (2, .int x2)] [] := by
  unfold w_X7_moved_0 at h
  refine z_iload_n cx dX7_moved_0 rfl 0 rfl ?_
  refine z_iload_n cx dX7_moved_1 rfl 1 rfl ?_
  refine z_icmp_ne cx 9 dX7_moved_2 (by decide) (fun hc => ?_) (fun hc => ?_)
  · have h := h.1 hc
    refine z_iload_n cx dX7_moved_9 rfl 0 rfl ?_
    refine z_bipush (v := 10) cx dX7_moved_10 (by decide) ?_
    refine z_idiv cx dX7_moved_12 (by decide) ?_
    refine z_iload_n cx dX7_moved_13 rfl 1 rfl ?_
    refine z_icmp_ne cx 22 dX7_moved_14 (by decide) (fun hc => ?_) (fun hc => ?_)
    · have h := h.1 hc
      refine z_bipush (v := 100) cx dX7_moved_22 (by decide) ?_
      refine Z.sub (lv2 := [(0, _), (2, _)]) [0, 2] rfl ?_
      exact s_X7_moved_24 cx ex hno h
    · have h := h.2 hc
      refine z_bipush (v := 10) cx dX7_moved_17 (by decide) ?_
      refine z_goto cx 24 dX7_moved_19 (by decide) ?_
      refine Z.sub (lv2 := [(0, _), (2, _)]) [0, 2] rfl ?_
      exact s_X7_moved_24 cx ex hno h
  · have h := h.2 hc
    refine z_iconst (v := 1) cx dX7_moved_5 rfl ?_
    refine z_goto cx 24 dX7_moved_6 (by decide) ?_
    refine Z.sub (lv2 := [(0, _), (2, _)]) [0, 2] rfl ?_
    exact s_X7_moved_24 cx ex hno h
set_option maxHeartbeats 2000000 in
theorem c_X7_moved {l : Launch} (hl : l.stackTraces = false) {A : Nat → Prop} {G : zG} {Om : Heap → Prop} {x0 : Int32} {x1 : Int32} {x2 : Int32} {K : Int32 → Prop}  (h : w_X7_moved_0 x0 x1 x2 K) : Con l yX7_moved cX7_moved 4 (some .int) 0 0 0 0 A G [.int x0, .int x1, .int x2] Om (zqI Om K) zxN :=
  Con.of hl (by decide +kernel) (Nat.le_of_ble_eq_true rfl) [(0, .int x0), (1, .int x1), (2, .int x2)] rfl rfl (fun X cx hmn hno ex => by
    exact s_X7_moved_0 cx ex hno h)
set_option maxHeartbeats 2000000 in
theorem s_X7_meet_19 {X : zX} {A : Nat → Prop} {G : zG} {Om : Heap → Prop} {t0 : Int32} {K : Int32 → Prop} (cx : Cx X cX7_meet 4 RX7 (some .boolean) 0 0 0 0 A G) (ex : zGoal X (zqI Om K) zxN A 0 0) (hno : ∀ x ∈ (zC X).exceptionTable.toList, False)
    (h : w_X7_meet_19 t0 K) : Z X 4 A Om 0 0 19 [] [.int t0] := by
  unfold w_X7_meet_19 at h
  obtain ⟨hb, h⟩ := h
  exact z_zret cx ex dX7_meet_19 hb (fun H hO => ⟨_, rfl, h, hO⟩) (Nat.le_of_ble_eq_true rfl) (Nat.le_of_ble_eq_true rfl)
set_option maxHeartbeats 2000000 in
theorem s_X7_meet_18 {X : zX} {A : Nat → Prop} {G : zG} {Om : Heap → Prop}  {K : Int32 → Prop} (cx : Cx X cX7_meet 4 RX7 (some .boolean) 0 0 0 0 A G) (ex : zGoal X (zqI Om K) zxN A 0 0) (hno : ∀ x ∈ (zC X).exceptionTable.toList, False)
    (h : w_X7_meet_18 K) : Z X 4 A Om 0 0 18 [] [] := by
  unfold w_X7_meet_18 at h
  refine z_iconst (v := 0) cx dX7_meet_18 rfl ?_
  exact s_X7_meet_19 cx ex hno h
set_option maxHeartbeats 2000000 in
theorem s_X7_meet_0 {X : zX} {A : Nat → Prop} {G : zG} {Om : Heap → Prop} {x0 : Int32} {x1 : Int32} {x2 : Int32} {x3 : Int32} {K : Int32 → Prop} (cx : Cx X cX7_meet 4 RX7 (some .boolean) 0 0 0 0 A G) (ex : zGoal X (zqI Om K) zxN A 0 0) (hno : ∀ x ∈ (zC X).exceptionTable.toList, False)
    (h : w_X7_meet_0 x0 x1 x2 x3 K) : Z X 4 A Om 0 0 0 [(0, .int x0), (1, .int x1), (2, .int x2), (3, .int x3)] [] := by
  unfold w_X7_meet_0 at h
  refine z_iload_n cx dX7_meet_0 rfl 0 rfl ?_
  refine z_iload_n cx dX7_meet_1 rfl 2 rfl ?_
  refine z_iload_n cx dX7_meet_2 rfl 3 rfl ?_
  refine z_iadd cx dX7_meet_3 ?_
  refine z_icmp_ge cx 18 dX7_meet_4 (by decide) (fun hc => ?_) (fun hc => ?_)
  · have h := h.1 hc
    refine Z.sub (lv2 := []) [] rfl ?_
    exact s_X7_meet_18 cx ex hno h
  · have h := h.2 hc
    refine z_iload_n cx dX7_meet_7 rfl 2 rfl ?_
    refine z_iload_n cx dX7_meet_8 rfl 0 rfl ?_
    refine z_iload_n cx dX7_meet_9 rfl 1 rfl ?_
    refine z_iadd cx dX7_meet_10 ?_
    refine z_icmp_ge cx 18 dX7_meet_11 (by decide) (fun hc => ?_) (fun hc => ?_)
    · have h := h.1 hc
      refine Z.sub (lv2 := []) [] rfl ?_
      exact s_X7_meet_18 cx ex hno h
    · have h := h.2 hc
      refine z_iconst (v := 1) cx dX7_meet_14 rfl ?_
      refine z_goto cx 19 dX7_meet_15 (by decide) ?_
      refine Z.sub (lv2 := []) [] rfl ?_
      exact s_X7_meet_19 cx ex hno h
set_option maxHeartbeats 2000000 in
theorem c_X7_meet {l : Launch} (hl : l.stackTraces = false) {A : Nat → Prop} {G : zG} {Om : Heap → Prop} {x0 : Int32} {x1 : Int32} {x2 : Int32} {x3 : Int32} {K : Int32 → Prop}  (h : w_X7_meet_0 x0 x1 x2 x3 K) : Con l yX7_meet cX7_meet 4 (some .boolean) 0 0 0 0 A G [.int x0, .int x1, .int x2, .int x3] Om (zqI Om K) zxN :=
  Con.of hl (by decide +kernel) (Nat.le_of_ble_eq_true rfl) [(0, .int x0), (1, .int x1), (2, .int x2), (3, .int x3)] rfl rfl (fun X cx hmn hno ex => by
    exact s_X7_meet_0 cx ex hno h)
set_option maxHeartbeats 2000000 in
theorem s_X7_isUser_0 {X : zX} {A : Nat → Prop} {G : zG} {m : Nat} {mad : Nat → Nat} {M : zMS} {x1 : Int32} {K : Int32 → Prop} (cx : Cx X cX7_isUser 2 RX7 (some .boolean) 1 22 0 0 A G) (ex : zGoal X (zqI (WM G m mad M) K) zxN A 0 0) (hno : ∀ x ∈ (zC X).exceptionTable.toList, False) (ok : zmOK A m mad)
    (h : w_X7_isUser_0 M x1 K) : Z X 2 A (WM G m mad M) 0 0 0 [(0, .ref m), (1, .int x1)] [] := by
  unfold w_X7_isUser_0 at h
  refine z_iload_n cx dX7_isUser_0 rfl 1 rfl ?_
  refine z_iconst (v := 0) cx dX7_isUser_1 rfl ?_
  refine z_aload_n cx dX7_isUser_2 rfl 0 rfl ?_
  refine zm_get cx 42 rfl q1577 rfl rfl dX7_isUser_3 ?_
  refine z_iconst (v := 1) cx dX7_isUser_6 rfl ?_
  refine z_isub cx dX7_isUser_7 ?_
  refine z_callS (rest := []) cx (c_X7_in cx.quiet h) q1764 q1765 q99 q1766 rfl yd_X7_in (Nat.le_of_ble_eq_true rfl) (Nat.le_of_ble_eq_true rfl) (Nat.le_of_ble_eq_true rfl) (Nat.le_of_ble_eq_true rfl) (Nat.le_of_ble_eq_true rfl) dX7_isUser_8 rfl zx_none (zo_qI fun g8 h => ?_)
  obtain ⟨hb, h⟩ := h
  exact z_zret cx ex dX7_isUser_11 hb (fun H hO => ⟨_, rfl, h, hO⟩) (Nat.le_of_ble_eq_true rfl) (Nat.le_of_ble_eq_true rfl)
set_option maxHeartbeats 2000000 in
theorem c_X7_isUser {l : Launch} (hl : l.stackTraces = false) {A : Nat → Prop} {G : zG} {m : Nat} {mad : Nat → Nat} {M : zMS} {x1 : Int32} {K : Int32 → Prop} (ok : zmOK A m mad) (h : w_X7_isUser_0 M x1 K) : Con l yX7_isUser cX7_isUser 2 (some .boolean) 1 22 0 0 A G [.ref m, .int x1] (WM G m mad M) (zqI (WM G m mad M) K) zxN :=
  Con.of hl (by decide +kernel) (Nat.le_of_ble_eq_true rfl) [(0, .ref m), (1, .int x1)] rfl rfl (fun X cx hmn hno ex => by
    exact s_X7_isUser_0 cx ex hno ok h)
set_option maxHeartbeats 2000000 in
theorem s_X7_isGroup_0 {X : zX} {A : Nat → Prop} {G : zG} {m : Nat} {mad : Nat → Nat} {M : zMS} {x1 : Int32} {K : Int32 → Prop} (cx : Cx X cX7_isGroup 2 RX7 (some .boolean) 1 22 0 0 A G) (ex : zGoal X (zqI (WM G m mad M) K) zxN A 0 0) (hno : ∀ x ∈ (zC X).exceptionTable.toList, False) (ok : zmOK A m mad)
    (h : w_X7_isGroup_0 M x1 K) : Z X 2 A (WM G m mad M) 0 0 0 [(0, .ref m), (1, .int x1)] [] := by
  unfold w_X7_isGroup_0 at h
  refine z_iload_n cx dX7_isGroup_0 rfl 1 rfl ?_
  refine z_iconst (v := 0) cx dX7_isGroup_1 rfl ?_
  refine z_aload_n cx dX7_isGroup_2 rfl 0 rfl ?_
  refine zm_get cx 48 rfl q1583 rfl rfl dX7_isGroup_3 ?_
  refine z_iconst (v := 1) cx dX7_isGroup_6 rfl ?_
  refine z_isub cx dX7_isGroup_7 ?_
  refine z_callS (rest := []) cx (c_X7_in cx.quiet h) q1764 q1765 q99 q1766 rfl yd_X7_in (Nat.le_of_ble_eq_true rfl) (Nat.le_of_ble_eq_true rfl) (Nat.le_of_ble_eq_true rfl) (Nat.le_of_ble_eq_true rfl) (Nat.le_of_ble_eq_true rfl) dX7_isGroup_8 rfl zx_none (zo_qI fun g8 h => ?_)
  obtain ⟨hb, h⟩ := h
  exact z_zret cx ex dX7_isGroup_11 hb (fun H hO => ⟨_, rfl, h, hO⟩) (Nat.le_of_ble_eq_true rfl) (Nat.le_of_ble_eq_true rfl)
set_option maxHeartbeats 2000000 in
theorem c_X7_isGroup {l : Launch} (hl : l.stackTraces = false) {A : Nat → Prop} {G : zG} {m : Nat} {mad : Nat → Nat} {M : zMS} {x1 : Int32} {K : Int32 → Prop} (ok : zmOK A m mad) (h : w_X7_isGroup_0 M x1 K) : Con l yX7_isGroup cX7_isGroup 2 (some .boolean) 1 22 0 0 A G [.ref m, .int x1] (WM G m mad M) (zqI (WM G m mad M) K) zxN :=
  Con.of hl (by decide +kernel) (Nat.le_of_ble_eq_true rfl) [(0, .ref m), (1, .int x1)] rfl rfl (fun X cx hmn hno ex => by
    exact s_X7_isGroup_0 cx ex hno ok h)
set_option maxHeartbeats 2000000 in
theorem s_X7_isConnected_38 {X : zX} {A : Nat → Prop} {G : zG} {m : Nat} {mad : Nat → Nat} {M : zMS} {t0 : Int32} {K : Int32 → Prop} (cx : Cx X cX7_isConnected 2 RX7 (some .boolean) 0 0 0 0 A G) (ex : zGoal X (zqI (WM G m mad M) K) zxN A 0 0) (hno : ∀ x ∈ (zC X).exceptionTable.toList, False) (ok : zmOK A m mad)
    (h : w_X7_isConnected_38 M t0 K) : Z X 2 A (WM G m mad M) 0 0 38 [] [.int t0] := by
  unfold w_X7_isConnected_38 at h
  obtain ⟨hb, h⟩ := h
  exact z_zret cx ex dX7_isConnected_38 hb (fun H hO => ⟨_, rfl, h, hO⟩) (Nat.le_of_ble_eq_true rfl) (Nat.le_of_ble_eq_true rfl)
set_option maxHeartbeats 2000000 in
theorem s_X7_isConnected_0 {X : zX} {A : Nat → Prop} {G : zG} {m : Nat} {mad : Nat → Nat} {M : zMS} {x1 : Int32} {K : Int32 → Prop} (cx : Cx X cX7_isConnected 2 RX7 (some .boolean) 0 0 0 0 A G) (ex : zGoal X (zqI (WM G m mad M) K) zxN A 0 0) (hno : ∀ x ∈ (zC X).exceptionTable.toList, False) (ok : zmOK A m mad)
    (h : w_X7_isConnected_0 M x1 K) : Z X 2 A (WM G m mad M) 0 0 0 [(0, .ref m), (1, .int x1)] [] := by
  unfold w_X7_isConnected_0 at h
  refine z_aload_n cx dX7_isConnected_0 rfl 0 rfl ?_
  refine zm_get cx 39 rfl q1574 rfl rfl dX7_isConnected_1 ?_
  refine z_iconst (v := 3) cx dX7_isConnected_4 rfl ?_
  refine z_iload_n cx dX7_isConnected_5 rfl 1 rfl ?_
  refine z_imul cx dX7_isConnected_6 ?_
  obtain ⟨hin, h⟩ := h
  refine zm_iald cx 39 (n := 24) rfl rfl hin dX7_isConnected_7 ?_
  refine z_aload_n cx dX7_isConnected_8 rfl 0 rfl ?_
  refine zm_get cx 39 rfl q1574 rfl rfl dX7_isConnected_9 ?_
  refine z_iconst (v := 3) cx dX7_isConnected_12 rfl ?_
  refine z_iload_n cx dX7_isConnected_13 rfl 1 rfl ?_
  refine z_imul cx dX7_isConnected_14 ?_
  refine z_iconst (v := 1) cx dX7_isConnected_15 rfl ?_
  refine z_iadd cx dX7_isConnected_16 ?_
  obtain ⟨hin, h⟩ := h
  refine zm_iald cx 39 (n := 24) rfl rfl hin dX7_isConnected_17 ?_
  refine z_iadd cx dX7_isConnected_18 ?_
  refine z_aload_n cx dX7_isConnected_19 rfl 0 rfl ?_
  refine zm_get cx 39 rfl q1574 rfl rfl dX7_isConnected_20 ?_
  refine z_iconst (v := 3) cx dX7_isConnected_23 rfl ?_
  refine z_iload_n cx dX7_isConnected_24 rfl 1 rfl ?_
  refine z_imul cx dX7_isConnected_25 ?_
  refine z_iconst (v := 2) cx dX7_isConnected_26 rfl ?_
  refine z_iadd cx dX7_isConnected_27 ?_
  obtain ⟨hin, h⟩ := h
  refine zm_iald cx 39 (n := 24) rfl rfl hin dX7_isConnected_28 ?_
  refine z_iadd cx dX7_isConnected_29 ?_
  refine z_if_le cx 37 dX7_isConnected_30 (by decide) (fun hc => ?_) (fun hc => ?_)
  · have h := h.1 hc
    refine z_iconst (v := 0) cx dX7_isConnected_37 rfl ?_
    refine Z.sub (lv2 := []) [] rfl ?_
    exact s_X7_isConnected_38 cx ex hno ok h
  · have h := h.2 hc
    refine z_iconst (v := 1) cx dX7_isConnected_33 rfl ?_
    refine z_goto cx 38 dX7_isConnected_34 (by decide) ?_
    refine Z.sub (lv2 := []) [] rfl ?_
    exact s_X7_isConnected_38 cx ex hno ok h
set_option maxHeartbeats 2000000 in
theorem c_X7_isConnected {l : Launch} (hl : l.stackTraces = false) {A : Nat → Prop} {G : zG} {m : Nat} {mad : Nat → Nat} {M : zMS} {x1 : Int32} {K : Int32 → Prop} (ok : zmOK A m mad) (h : w_X7_isConnected_0 M x1 K) : Con l yX7_isConnected cX7_isConnected 2 (some .boolean) 0 0 0 0 A G [.ref m, .int x1] (WM G m mad M) (zqI (WM G m mad M) K) zxN :=
  Con.of hl (by decide +kernel) (Nat.le_of_ble_eq_true rfl) [(0, .ref m), (1, .int x1)] rfl rfl (fun X cx hmn hno ex => by
    exact s_X7_isConnected_0 cx ex hno ok h)
set_option maxHeartbeats 2000000 in
theorem s_X7_hits_0 {X : zX} {A : Nat → Prop} {G : zG} {m : Nat} {mad : Nat → Nat} {M : zMS} {K : Int32 → zMS → Prop} (cx : Cx X cX7_hits 1 RX7 (some .int) 0 0 0 0 A G) (ex : zGoal X (zpI (WM G m mad) K) zxN A 0 0) (hno : ∀ x ∈ (zC X).exceptionTable.toList, False) (ok : zmOK A m mad)
    (h : w_X7_hits_0 M K) : Z X 1 A (WM G m mad M) 0 0 0 [(0, .ref m)] [] := by
  unfold w_X7_hits_0 at h
  refine z_aload_n cx dX7_hits_0 rfl 0 rfl ?_
  refine z_iconst (v := 0) cx dX7_hits_1 rfl ?_
  have h := h _ rfl
  refine zm_put cx ok 0 rfl q1535 rfl rfl (by decide +kernel) rfl dX7_hits_2 ?_
  refine z_aload_n cx dX7_hits_5 rfl 0 rfl ?_
  refine zm_get cx 60 rfl q1595 rfl rfl dX7_hits_6 ?_
  exact z_iret cx ex dX7_hits_9 (fun H hO => ⟨_, _, rfl, h, hO⟩) (Nat.le_of_ble_eq_true rfl) (Nat.le_of_ble_eq_true rfl)
set_option maxHeartbeats 2000000 in
theorem c_X7_hits {l : Launch} (hl : l.stackTraces = false) {A : Nat → Prop} {G : zG} {m : Nat} {mad : Nat → Nat} {M : zMS} {K : Int32 → zMS → Prop} (ok : zmOK A m mad) (h : w_X7_hits_0 M K) : Con l yX7_hits cX7_hits 1 (some .int) 0 0 0 0 A G [.ref m] (WM G m mad M) (zpI (WM G m mad) K) zxN :=
  Con.of hl (by decide +kernel) (Nat.le_of_ble_eq_true rfl) [(0, .ref m)] rfl rfl (fun X cx hmn hno ex => by
    exact s_X7_hits_0 cx ex hno ok h)
set_option maxHeartbeats 2000000 in
theorem s_X7_layers_20 {X : zX} {A : Nat → Prop} {G : zG} {m : Nat} {mad : Nat → Nat} {M : zMS} {t0 : Int32} {K : Int32 → zMS → Prop} (cx : Cx X cX7_layers 2 RX7 (some .int) 0 0 0 0 A G) (ex : zGoal X (zpI (WM G m mad) K) zxN A 0 0) (hno : ∀ x ∈ (zC X).exceptionTable.toList, False) (ok : zmOK A m mad)
    (h : w_X7_layers_20 M t0 K) : Z X 2 A (WM G m mad M) 0 0 20 [] [.int t0] := by
  unfold w_X7_layers_20 at h
  exact z_iret cx ex dX7_layers_20 (fun H hO => ⟨_, _, rfl, h, hO⟩) (Nat.le_of_ble_eq_true rfl) (Nat.le_of_ble_eq_true rfl)
set_option maxHeartbeats 2000000 in
theorem s_X7_layers_0 {X : zX} {A : Nat → Prop} {G : zG} {m : Nat} {mad : Nat → Nat} {M : zMS} {x1 : Int32} {K : Int32 → zMS → Prop} (cx : Cx X cX7_layers 2 RX7 (some .int) 0 0 0 0 A G) (ex : zGoal X (zpI (WM G m mad) K) zxN A 0 0) (hno : ∀ x ∈ (zC X).exceptionTable.toList, False) (ok : zmOK A m mad)
    (h : w_X7_layers_0 M x1 K) : Z X 2 A (WM G m mad M) 0 0 0 [(0, .ref m), (1, .int x1)] [] := by
  unfold w_X7_layers_0 at h
  refine z_aload_n cx dX7_layers_0 rfl 0 rfl ?_
  refine z_iconst (v := 0) cx dX7_layers_1 rfl ?_
  have h := h _ rfl
  refine zm_put cx ok 0 rfl q1535 rfl rfl (by decide +kernel) rfl dX7_layers_2 ?_
  refine z_iload_n cx dX7_layers_5 rfl 1 rfl ?_
  refine z_if_eq cx 16 dX7_layers_6 (by decide) (fun hc => ?_) (fun hc => ?_)
  · have h := h.1 hc
    refine z_aload_n cx dX7_layers_16 rfl 0 rfl ?_
    refine zm_get cx 19 rfl q1554 rfl rfl dX7_layers_17 ?_
    refine Z.sub (lv2 := []) [] rfl ?_
    exact s_X7_layers_20 cx ex hno ok h
  · have h := h.2 hc
    refine z_aload_n cx dX7_layers_9 rfl 0 rfl ?_
    refine zm_get cx 18 rfl q1553 rfl rfl dX7_layers_10 ?_
    refine z_goto cx 20 dX7_layers_13 (by decide) ?_
    refine Z.sub (lv2 := []) [] rfl ?_
    exact s_X7_layers_20 cx ex hno ok h
set_option maxHeartbeats 2000000 in
theorem c_X7_layers {l : Launch} (hl : l.stackTraces = false) {A : Nat → Prop} {G : zG} {m : Nat} {mad : Nat → Nat} {M : zMS} {x1 : Int32} {K : Int32 → zMS → Prop} (ok : zmOK A m mad) (h : w_X7_layers_0 M x1 K) : Con l yX7_layers cX7_layers 2 (some .int) 0 0 0 0 A G [.ref m, .int x1] (WM G m mad M) (zpI (WM G m mad) K) zxN :=
  Con.of hl (by decide +kernel) (Nat.le_of_ble_eq_true rfl) [(0, .ref m), (1, .int x1)] rfl rfl (fun X cx hmn hno ex => by
    exact s_X7_layers_0 cx ex hno ok h)
set_option maxHeartbeats 2000000 in
theorem s_X7_group_63 {X : zX} {A : Nat → Prop} {G : zG} {m : Nat} {mad : Nat → Nat} {M : zMS} {x1 : Int32} {x2 : Int32} {x3 : Int32} {x4 : Int32} {t1 : Int32} {K : Int32 → zMS → Prop} (cx : Cx X cX7_group 5 RX7 (some .int) 2 43 0 0 A G) (ex : zGoal X (zpI (WM G m mad) K) zxN A 0 0) (hno : ∀ x ∈ (zC X).exceptionTable.toList, False) (ok : zmOK A m mad)
    (h : w_X7_group_63 M x1 x2 x3 x4 t1 K) : Z X 5 A (WM G m mad M) 0 0 63 [(0, .ref m), (1, .int x1), (2, .int x2), (3, .int x3), (4, .int x4)] [.int t1, .ref m] := by
  unfold w_X7_group_63 at h
  have h := h _ rfl
  refine zm_put cx ok 0 rfl q1535 rfl rfl (by decide +kernel) rfl dX7_group_63 ?_
  refine z_aload_n cx dX7_group_66 rfl 0 rfl ?_
  refine zm_get cx 0 rfl q1535 rfl rfl dX7_group_67 ?_
  refine z_if_le cx 75 dX7_group_70 (by decide) (fun hc => ?_) (fun hc => ?_)
  · have h := h.1 hc
    refine z_aload_n cx dX7_group_75 rfl 0 rfl ?_
    refine zm_get cx 49 rfl q1584 rfl rfl dX7_group_76 ?_
    refine z_aload_n cx dX7_group_79 rfl 0 rfl ?_
    refine zm_get cx 48 rfl q1583 rfl rfl dX7_group_80 ?_
    refine z_iload_n cx dX7_group_83 rfl 1 rfl ?_
    obtain ⟨hin, h⟩ := h
    have h := h _ rfl
    refine zm_iast cx ok 49 (n := 8) rfl rfl hin dX7_group_84 ?_
    refine z_aload_n cx dX7_group_85 rfl 0 rfl ?_
    refine zm_get cx 50 rfl q1585 rfl rfl dX7_group_86 ?_
    refine z_aload_n cx dX7_group_89 rfl 0 rfl ?_
    refine zm_get cx 48 rfl q1583 rfl rfl dX7_group_90 ?_
    refine z_iload_n cx dX7_group_93 rfl 2 rfl ?_
    obtain ⟨hin, h⟩ := h
    have h := h _ rfl
    refine zm_iast cx ok 50 (n := 8) rfl rfl hin dX7_group_94 ?_
    refine z_aload_n cx dX7_group_95 rfl 0 rfl ?_
    refine zm_get cx 51 rfl q1586 rfl rfl dX7_group_96 ?_
    refine z_aload_n cx dX7_group_99 rfl 0 rfl ?_
    refine zm_get cx 48 rfl q1583 rfl rfl dX7_group_100 ?_
    refine z_iload_n cx dX7_group_103 rfl 3 rfl ?_
    obtain ⟨hin, h⟩ := h
    have h := h _ rfl
    refine zm_iast cx ok 51 (n := 8) rfl rfl hin dX7_group_104 ?_
    refine z_aload_n cx dX7_group_105 rfl 0 rfl ?_
    refine zm_get cx 52 rfl q1587 rfl rfl dX7_group_106 ?_
    refine z_aload_n cx dX7_group_109 rfl 0 rfl ?_
    refine zm_get cx 48 rfl q1583 rfl rfl dX7_group_110 ?_
    refine z_iload cx dX7_group_113 4 rfl ?_
    obtain ⟨hin, h⟩ := h
    have h := h _ rfl
    refine zm_iast cx ok 52 (n := 8) rfl rfl hin dX7_group_115 ?_
    refine z_aload_n cx dX7_group_116 rfl 0 rfl ?_
    refine z_dup cx dX7_group_117 rfl ?_
    refine zm_get cx 48 rfl q1583 rfl rfl dX7_group_118 ?_
    refine z_iconst (v := 1) cx dX7_group_121 rfl ?_
    refine z_iadd cx dX7_group_122 ?_
    have h := h _ rfl
    refine zm_put cx ok 48 rfl q1583 rfl rfl (by decide +kernel) rfl dX7_group_123 ?_
    refine z_aload_n cx dX7_group_126 rfl 0 rfl ?_
    refine zm_get cx 48 rfl q1583 rfl rfl dX7_group_127 ?_
    refine z_iconst (v := 1) cx dX7_group_130 rfl ?_
    refine z_isub cx dX7_group_131 ?_
    exact z_iret cx ex dX7_group_132 (fun H hO => ⟨_, _, rfl, h, hO⟩) (Nat.le_of_ble_eq_true rfl) (Nat.le_of_ble_eq_true rfl)
  · have h := h.2 hc
    refine z_iconst (v := 0) cx dX7_group_73 rfl ?_
    exact z_iret cx ex dX7_group_74 (fun H hO => ⟨_, _, rfl, h, hO⟩) (Nat.le_of_ble_eq_true rfl) (Nat.le_of_ble_eq_true rfl)
set_option maxHeartbeats 2000000 in
theorem s_X7_group_45 {X : zX} {A : Nat → Prop} {G : zG} {m : Nat} {mad : Nat → Nat} {M : zMS} {x1 : Int32} {x2 : Int32} {x3 : Int32} {x4 : Int32} {K : Int32 → zMS → Prop} (cx : Cx X cX7_group 5 RX7 (some .int) 2 43 0 0 A G) (ex : zGoal X (zpI (WM G m mad) K) zxN A 0 0) (hno : ∀ x ∈ (zC X).exceptionTable.toList, False) (ok : zmOK A m mad)
    (h : w_X7_group_45 M x1 x2 x3 x4 K) : Z X 5 A (WM G m mad M) 0 0 45 [(0, .ref m), (1, .int x1), (2, .int x2), (3, .int x3), (4, .int x4)] [.ref m] := by
  unfold w_X7_group_45 at h
  refine z_iconst (v := 2) cx dX7_group_45 rfl ?_
  refine z_goto cx 63 dX7_group_46 (by decide) ?_
  exact s_X7_group_63 cx ex hno ok h
set_option maxHeartbeats 2000000 in
theorem s_X7_group_0 {X : zX} {A : Nat → Prop} {G : zG} {m : Nat} {mad : Nat → Nat} {M : zMS} {x1 : Int32} {x2 : Int32} {x3 : Int32} {x4 : Int32} {K : Int32 → zMS → Prop} (cx : Cx X cX7_group 5 RX7 (some .int) 2 43 0 0 A G) (ex : zGoal X (zpI (WM G m mad) K) zxN A 0 0) (hno : ∀ x ∈ (zC X).exceptionTable.toList, False) (ok : zmOK A m mad)
    (h : w_X7_group_0 M x1 x2 x3 x4 K) : Z X 5 A (WM G m mad M) 0 0 0 [(0, .ref m), (1, .int x1), (2, .int x2), (3, .int x3), (4, .int x4)] [] := by
  unfold w_X7_group_0 at h
  refine z_aload_n cx dX7_group_0 rfl 0 rfl ?_
  refine z_aload_n cx dX7_group_1 rfl 0 rfl ?_
  refine z_iload_n cx dX7_group_2 rfl 1 rfl ?_
  refine z_callV (C := RX7) (rest := [.ref _]) cx (c_X7_isGroup cx.quiet ok h) q1981 q1983 qs74 q99 q1984 (zrv_M cx) rfl ⟨rfl, yd_X7_isGroup⟩ (Nat.le_of_ble_eq_true rfl) (Nat.le_of_ble_eq_true rfl) (Nat.le_of_ble_eq_true rfl) (Nat.le_of_ble_eq_true rfl) (Nat.le_of_ble_eq_true rfl) dX7_group_3 rfl zx_none (zo_qI fun g3 h => ?_)
  refine z_if_ne cx 13 dX7_group_6 (by decide) (fun hc => ?_) (fun hc => ?_)
  · have h := h.1 hc
    refine z_iload_n cx dX7_group_13 rfl 2 rfl ?_
    refine z_iconst (v := 0) cx dX7_group_14 rfl ?_
    refine z_bipush (v := 50) cx dX7_group_15 (by decide) ?_
    refine z_callS (rest := [.ref _]) cx (c_X7_in cx.quiet h) q1764 q1765 q99 q1766 rfl yd_X7_in (Nat.le_of_ble_eq_true rfl) (Nat.le_of_ble_eq_true rfl) (Nat.le_of_ble_eq_true rfl) (Nat.le_of_ble_eq_true rfl) (Nat.le_of_ble_eq_true rfl) dX7_group_17 rfl zx_none (zo_qI fun g17 h => ?_)
    refine z_if_eq cx 45 dX7_group_20 (by decide) (fun hc => ?_) (fun hc => ?_)
    · have h := h.1 hc
      exact s_X7_group_45 cx ex hno ok h
    · have h := h.2 hc
      refine z_iload_n cx dX7_group_23 rfl 3 rfl ?_
      refine z_iconst (v := 0) cx dX7_group_24 rfl ?_
      refine z_sipush (v := 9999) cx dX7_group_25 (by decide) ?_
      refine z_callS (rest := [.ref _]) cx (c_X7_in cx.quiet h) q1764 q1765 q99 q1766 rfl yd_X7_in (Nat.le_of_ble_eq_true rfl) (Nat.le_of_ble_eq_true rfl) (Nat.le_of_ble_eq_true rfl) (Nat.le_of_ble_eq_true rfl) (Nat.le_of_ble_eq_true rfl) dX7_group_28 rfl zx_none (zo_qI fun g28 h => ?_)
      refine z_if_eq cx 45 dX7_group_31 (by decide) (fun hc => ?_) (fun hc => ?_)
      · have h := h.1 hc
        exact s_X7_group_45 cx ex hno ok h
      · have h := h.2 hc
        refine z_iload cx dX7_group_34 4 rfl ?_
        refine z_iconst (v := 1) cx dX7_group_36 rfl ?_
        refine z_bipush (v := 99) cx dX7_group_37 (by decide) ?_
        refine z_callS (rest := [.ref _]) cx (c_X7_in cx.quiet h) q1764 q1765 q99 q1766 rfl yd_X7_in (Nat.le_of_ble_eq_true rfl) (Nat.le_of_ble_eq_true rfl) (Nat.le_of_ble_eq_true rfl) (Nat.le_of_ble_eq_true rfl) (Nat.le_of_ble_eq_true rfl) dX7_group_39 rfl zx_none (zo_qI fun g39 h => ?_)
        refine z_if_ne cx 49 dX7_group_42 (by decide) (fun hc => ?_) (fun hc => ?_)
        · have h := h.1 hc
          refine z_aload_n cx dX7_group_49 rfl 0 rfl ?_
          refine zm_get cx 48 rfl q1583 rfl rfl dX7_group_50 ?_
          refine z_bipush (v := 8) cx dX7_group_53 (by decide) ?_
          refine z_icmp_ne cx 62 dX7_group_55 (by decide) (fun hc => ?_) (fun hc => ?_)
          · have h := h.1 hc
            refine z_iconst (v := 0) cx dX7_group_62 rfl ?_
            exact s_X7_group_63 cx ex hno ok h
          · have h := h.2 hc
            refine z_iconst (v := 3) cx dX7_group_58 rfl ?_
            refine z_goto cx 63 dX7_group_59 (by decide) ?_
            exact s_X7_group_63 cx ex hno ok h
        · have h := h.2 hc
          exact s_X7_group_45 cx ex hno ok h
  · have h := h.2 hc
    refine z_iconst (v := 1) cx dX7_group_9 rfl ?_
    refine z_goto cx 63 dX7_group_10 (by decide) ?_
    exact s_X7_group_63 cx ex hno ok h
set_option maxHeartbeats 2000000 in
theorem c_X7_group {l : Launch} (hl : l.stackTraces = false) {A : Nat → Prop} {G : zG} {m : Nat} {mad : Nat → Nat} {M : zMS} {x1 : Int32} {x2 : Int32} {x3 : Int32} {x4 : Int32} {K : Int32 → zMS → Prop} (ok : zmOK A m mad) (h : w_X7_group_0 M x1 x2 x3 x4 K) : Con l yX7_group cX7_group 5 (some .int) 2 43 0 0 A G [.ref m, .int x1, .int x2, .int x3, .int x4] (WM G m mad M) (zpI (WM G m mad) K) zxN :=
  Con.of hl (by decide +kernel) (Nat.le_of_ble_eq_true rfl) [(0, .ref m), (1, .int x1), (2, .int x2), (3, .int x3), (4, .int x4)] rfl rfl (fun X cx hmn hno ex => by
    exact s_X7_group_0 cx ex hno ok h)
set_option maxHeartbeats 2000000 in
theorem s_X7_user_27 {X : zX} {A : Nat → Prop} {G : zG} {m : Nat} {mad : Nat → Nat} {M : zMS} {x1 : Int32} {t1 : Int32} {K : Int32 → zMS → Prop} (cx : Cx X cX7_user 2 RX7 (some .int) 2 43 0 0 A G) (ex : zGoal X (zpI (WM G m mad) K) zxN A 0 0) (hno : ∀ x ∈ (zC X).exceptionTable.toList, False) (ok : zmOK A m mad)
    (h : w_X7_user_27 M x1 t1 K) : Z X 2 A (WM G m mad M) 0 0 27 [(0, .ref m), (1, .int x1)] [.int t1, .ref m] := by
  unfold w_X7_user_27 at h
  have h := h _ rfl
  refine zm_put cx ok 0 rfl q1535 rfl rfl (by decide +kernel) rfl dX7_user_27 ?_
  refine z_aload_n cx dX7_user_30 rfl 0 rfl ?_
  refine zm_get cx 0 rfl q1535 rfl rfl dX7_user_31 ?_
  refine z_if_le cx 39 dX7_user_34 (by decide) (fun hc => ?_) (fun hc => ?_)
  · have h := h.1 hc
    refine z_aload_n cx dX7_user_39 rfl 0 rfl ?_
    refine zm_get cx 43 rfl q1578 rfl rfl dX7_user_40 ?_
    refine z_aload_n cx dX7_user_43 rfl 0 rfl ?_
    refine zm_get cx 42 rfl q1577 rfl rfl dX7_user_44 ?_
    refine z_iload_n cx dX7_user_47 rfl 1 rfl ?_
    obtain ⟨hin, h⟩ := h
    have h := h _ rfl
    refine zm_iast cx ok 43 (n := 8) rfl rfl hin dX7_user_48 ?_
    refine z_aload_n cx dX7_user_49 rfl 0 rfl ?_
    refine z_dup cx dX7_user_50 rfl ?_
    refine zm_get cx 42 rfl q1577 rfl rfl dX7_user_51 ?_
    refine z_iconst (v := 1) cx dX7_user_54 rfl ?_
    refine z_iadd cx dX7_user_55 ?_
    have h := h _ rfl
    refine zm_put cx ok 42 rfl q1577 rfl rfl (by decide +kernel) rfl dX7_user_56 ?_
    refine z_aload_n cx dX7_user_59 rfl 0 rfl ?_
    refine zm_get cx 42 rfl q1577 rfl rfl dX7_user_60 ?_
    refine z_iconst (v := 1) cx dX7_user_63 rfl ?_
    refine z_isub cx dX7_user_64 ?_
    exact z_iret cx ex dX7_user_65 (fun H hO => ⟨_, _, rfl, h, hO⟩) (Nat.le_of_ble_eq_true rfl) (Nat.le_of_ble_eq_true rfl)
  · have h := h.2 hc
    refine z_iconst (v := 0) cx dX7_user_37 rfl ?_
    exact z_iret cx ex dX7_user_38 (fun H hO => ⟨_, _, rfl, h, hO⟩) (Nat.le_of_ble_eq_true rfl) (Nat.le_of_ble_eq_true rfl)
set_option maxHeartbeats 2000000 in
theorem s_X7_user_0 {X : zX} {A : Nat → Prop} {G : zG} {m : Nat} {mad : Nat → Nat} {M : zMS} {x1 : Int32} {K : Int32 → zMS → Prop} (cx : Cx X cX7_user 2 RX7 (some .int) 2 43 0 0 A G) (ex : zGoal X (zpI (WM G m mad) K) zxN A 0 0) (hno : ∀ x ∈ (zC X).exceptionTable.toList, False) (ok : zmOK A m mad)
    (h : w_X7_user_0 M x1 K) : Z X 2 A (WM G m mad M) 0 0 0 [(0, .ref m), (1, .int x1)] [] := by
  unfold w_X7_user_0 at h
  refine z_aload_n cx dX7_user_0 rfl 0 rfl ?_
  refine z_aload_n cx dX7_user_1 rfl 0 rfl ?_
  refine z_iload_n cx dX7_user_2 rfl 1 rfl ?_
  refine z_callV (C := RX7) (rest := [.ref _]) cx (c_X7_isUser cx.quiet ok h) q1958 q1960 qs73 q99 q1961 (zrv_M cx) rfl ⟨rfl, yd_X7_isUser⟩ (Nat.le_of_ble_eq_true rfl) (Nat.le_of_ble_eq_true rfl) (Nat.le_of_ble_eq_true rfl) (Nat.le_of_ble_eq_true rfl) (Nat.le_of_ble_eq_true rfl) dX7_user_3 rfl zx_none (zo_qI fun g3 h => ?_)
  refine z_if_ne cx 13 dX7_user_6 (by decide) (fun hc => ?_) (fun hc => ?_)
  · have h := h.1 hc
    refine z_aload_n cx dX7_user_13 rfl 0 rfl ?_
    refine zm_get cx 42 rfl q1577 rfl rfl dX7_user_14 ?_
    refine z_bipush (v := 8) cx dX7_user_17 (by decide) ?_
    refine z_icmp_ne cx 26 dX7_user_19 (by decide) (fun hc => ?_) (fun hc => ?_)
    · have h := h.1 hc
      refine z_iconst (v := 0) cx dX7_user_26 rfl ?_
      exact s_X7_user_27 cx ex hno ok h
    · have h := h.2 hc
      refine z_iconst (v := 2) cx dX7_user_22 rfl ?_
      refine z_goto cx 27 dX7_user_23 (by decide) ?_
      exact s_X7_user_27 cx ex hno ok h
  · have h := h.2 hc
    refine z_iconst (v := 1) cx dX7_user_9 rfl ?_
    refine z_goto cx 27 dX7_user_10 (by decide) ?_
    exact s_X7_user_27 cx ex hno ok h
set_option maxHeartbeats 2000000 in
theorem c_X7_user {l : Launch} (hl : l.stackTraces = false) {A : Nat → Prop} {G : zG} {m : Nat} {mad : Nat → Nat} {M : zMS} {x1 : Int32} {K : Int32 → zMS → Prop} (ok : zmOK A m mad) (h : w_X7_user_0 M x1 K) : Con l yX7_user cX7_user 2 (some .int) 2 43 0 0 A G [.ref m, .int x1] (WM G m mad M) (zpI (WM G m mad) K) zxN :=
  Con.of hl (by decide +kernel) (Nat.le_of_ble_eq_true rfl) [(0, .ref m), (1, .int x1)] rfl rfl (fun X cx hmn hno ex => by
    exact s_X7_user_0 cx ex hno ok h)

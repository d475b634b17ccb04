/-! CALLS in the layer: a contract (Con) at a call's place. -/
set_option maxRecDepth 100000
section ZCA
variable {X : zX} {cc : ByteArray} {nL : Nat} {own : String} {ret : Option FieldType} {fr lo mc ms : Nat} {A : Nat → Prop} {G : zG} {Om : Heap → Prop} {uc us pc : Nat} {lv : List (Nat × Value)} {rest : List Value}
variable {idx : Nat} {C : String} {x y : MethodName} {bytes : ByteArray} {maxL : Nat} {ret2 : Option FieldType} {fr2 lo2 mc2 ms2 n b : Nat} {As : List Value} {P : Option Value → Heap → Prop} {PX : String → Heap → Prop}
theorem zblind {av : List Value} : FrameBlind (va_Pc av (fun U => (∀ q, U.heap.size ≤ q → A q) ∧ KW G A U ∧ Om U.heap)) := fun a U g mk h => ⟨h.1, h.2.1, KW.calling g mk a h.2.2.1, h.2.2.2⟩
theorem zpre (cx : Cx X cc nL own ret fr lo mc ms A G) {H : Heap} {locs : List Loc} (hO : Om H) (hS : va_S A (zS X).heap H locs) {av : List Value} : ∀ U : State, U.heap = H → (zS X).WarmedH U.vm → va_Pc av (fun U => (∀ q, U.heap.size ≤ q → A q) ∧ KW G A U ∧ Om U.heap) av.toArray U := by
  intro U hU hW
  subst hU
  exact ⟨rfl, fun q hq => cx.hA q (Nat.le_trans hS.1 hq), cx.kw.step hW hS.2.1, hO⟩
theorem zfix (cx : Cx X cc nL own ret fr lo mc ms A G) : CallFix (zP X) (zM X) (zC X) cc nL (zS X) (zAr X) lw_all own := ⟨cx.exec, cx.code, cx.maxL, cx.ow, cx.ts⟩
theorem zafter {ls : Array Slot} {H : Heap} {locs : List Loc} {st0 : List Value} (hl : zl ls nL lv) (hS : va_S A (zS X).heap H locs)
    (hr : vx_Run (zP X) (zL X) (zE X) (zR X) (zS X) (zM X) (zAr X) (zB X) (zMe X) (zC X) H locs uc us mc2 ms2 (F0 (zM X) pc ls st0) rest (fun st o t => (∃ v, o = .returned v ∧ P v t.heap) ∧ va_F A st t) (fun E st t => PX E t.heap ∧ va_F A st t) A)
    (kx : ∀ E, ZX X nL A (PX E) (uc + mc2) (us + ms2) pc lv rest E) (kk : ∀ v : Option Value, Z X nL A (P v) (uc + mc2) (us + ms2) (pc + 3) lv (v.toList ++ rest)) : zW X H locs uc us (F0 (zM X) pc ls st0) := by
  have hs2 : ∀ {st t T' : State} {L : List Loc}, st.heap = H → T'.heap = t.heap → (∀ q ∈ L, A q.base) → va_F A st t → va_S A (zS X).heap t.heap (locs ++ L) := by
    intro st t T' L h0 e1 hL hF
    rw [va_F, h0] at hF
    refine ⟨Nat.le_trans hS.1 hF.1, fun q h1 h2 => ?_, fun q hq => ?_⟩
    · rw [hF.2 q (Nat.lt_of_lt_of_le h1 hS.1) h2]
      exact hS.2.1 q h1 h2
    · rcases List.mem_append.mp hq with h | h
      · exact hS.2.2 q h
      · exact hL q h
  intro T hT St
  rcases hr T hT St with ⟨v, st₀, t, T', L, h0, X', hL, e1, e2, ⟨⟨v', hv, hp⟩, hF⟩, st⟩ | ⟨q, st₀, t, T', L, E, ce, h0, X', hL, e1, e2, ⟨hp, hF⟩, g1, g2, g3, st⟩
  · cases hv
    obtain ⟨t2, a1, b1⟩ := kk v t.heap (locs ++ L) ls hp (hs2 (T' := T') h0 e1 hL hF) hl T' e1 X'
    exact ⟨t2, st t2 a1, b1⟩
  · obtain ⟨t2, a1, b1⟩ := kx E t.heap (locs ++ L) ls q ce hp (hs2 (T' := T') h0 e1 hL hF) hl g1 g2 g3 T' e1 X'
    exact ⟨t2, st.trans a1, b1⟩
theorem zafter5 {ls : Array Slot} {H : Heap} {locs : List Loc} {st0 : List Value} (hl : zl ls nL lv) (hS : va_S A (zS X).heap H locs)
    (hr : vx_Run5 (zP X) (zL X) (zE X) (zR X) (zS X) (zM X) (zAr X) (zB X) (zMe X) (zC X) H locs uc us mc2 ms2 (F0 (zM X) pc ls st0) rest (fun st o t => (∃ v, o = .returned v ∧ P v t.heap) ∧ va_F A st t) (fun E st t => PX E t.heap ∧ va_F A st t) A)
    (kx : ∀ E, ZX X nL A (PX E) (uc + mc2) (us + ms2) pc lv rest E) (kk : ∀ v : Option Value, Z X nL A (P v) (uc + mc2) (us + ms2) (pc + 5) lv (v.toList ++ rest)) : zW X H locs uc us (F0 (zM X) pc ls st0) := by
  have hs2 : ∀ {st t T' : State} {L : List Loc}, st.heap = H → T'.heap = t.heap → (∀ q ∈ L, A q.base) → va_F A st t → va_S A (zS X).heap t.heap (locs ++ L) := by
    intro st t T' L h0 e1 hL hF
    rw [va_F, h0] at hF
    refine ⟨Nat.le_trans hS.1 hF.1, fun q h1 h2 => ?_, fun q hq => ?_⟩
    · rw [hF.2 q (Nat.lt_of_lt_of_le h1 hS.1) h2]
      exact hS.2.1 q h1 h2
    · rcases List.mem_append.mp hq with h | h
      · exact hS.2.2 q h
      · exact hL q h
  intro T hT St
  rcases hr T hT St with ⟨v, st₀, t, T', L, h0, X', hL, e1, e2, ⟨⟨v', hv, hp⟩, hF⟩, st⟩ | ⟨q, st₀, t, T', L, E, ce, h0, X', hL, e1, e2, ⟨hp, hF⟩, g1, g2, g3, st⟩
  · cases hv
    obtain ⟨t2, a1, b1⟩ := kk v t.heap (locs ++ L) ls hp (hs2 (T' := T') h0 e1 hL hF) hl T' e1 X'
    exact ⟨t2, st t2 a1, b1⟩
  · obtain ⟨t2, a1, b1⟩ := kx E t.heap (locs ++ L) ls q ce hp (hs2 (T' := T') h0 e1 hL hF) hl g1 g2 g3 T' e1 X'
    exact ⟨t2, st.trans a1, b1⟩
/-- the receiver's cell is of class C -/
def zrv (X : zX) (A : Nat → Prop) (Om : Heap → Prop) (b : Nat) (C : String) : Prop := ∀ H (locs : List Loc), Om H → va_S A (zS X).heap H locs → ∃ cell : Cell, H[b]? = some cell ∧ cell.vm.isStatics = false ∧ (zS X).vm.findClass C = some cell.cls
theorem z_callV (cx : Cx X cc nL own ret fr lo mc ms A G) (hC : Con (zL X) y bytes maxL ret2 fr2 lo2 mc2 ms2 A G (.ref b :: As) Om P PX)
    (q1 : Cond.methodLink own idx y ∈ lw_all) (q2 : Cond.instanceMethod y ∈ lw_all) (q3 : Cond.selects C y y ∈ lw_all) (q4 : Cond.initialized C ∈ lw_all) (q5 : Cond.code y bytes maxL ret2 ∈ lw_all)
    (hr : zrv X A Om b C) (hn : As.length = n) (hd : y.cls = C ∧ y.cls ≠ "java/lang/invoke/MethodHandle" ∧ y.cls ≠ "java/lang/invoke/VarHandle" ∧ (parseMethodDescriptor y.desc).map (fun d => d.parameters.length) = some n)
    (hfr : fr2 + 1 ≤ fr) (hlo : 8 + (maxL + 11) + lo2 ≤ lo) (hc : uc + mc2 ≤ mc) (hs : us + ms2 ≤ ms) (hw : (rest.map fun v => v.category).sum ≤ 8) (hdg : decode cc pc = .ok (.invokevirtual idx, 3))
    {st0 : List Value} (hst : st0 = As.reverse ++ .ref b :: rest)
    (kx : ∀ E, ZX X nL A (PX E) (uc + mc2) (us + ms2) pc lv rest E) (kk : ∀ v : Option Value, Z X nL A (P v) (uc + mc2) (us + ms2) (pc + 3) lv (v.toList ++ rest)) : Z X nL A Om uc us pc lv st0 := by
  intro H locs ls hO hS hl
  exact zafter hl hS (vx_runV (As := As) (rest := rest) (zfix cx) hC (cwV n cx.ts (lw_V q1 q2 q3 q4 q5) rfl rfl rfl hd ⟨Nat.le_trans hfr cx.hfr, Nat.le_trans hlo cx.hlo⟩) ⟨zblind, hr H locs hO hS, zpre cx hO hS⟩ rfl hn hl.1.1 hst (lv_room hw) hdg ⟨Nat.le_trans hc cx.hmc, Nat.le_trans hs cx.hms⟩) kx kk
theorem z_callS (cx : Cx X cc nL own ret fr lo mc ms A G) (hC : Con (zL X) y bytes maxL ret2 fr2 lo2 mc2 ms2 A G As Om P PX)
    (q1 : Cond.methodLink own idx y ∈ lw_all) (q2 : Cond.static y ∈ lw_all) (q4 : Cond.initialized y.cls ∈ lw_all) (q5 : Cond.code y bytes maxL ret2 ∈ lw_all)
    (hn : As.length = n) (hd : y.cls ≠ "java/lang/invoke/MethodHandle" ∧ y.cls ≠ "java/lang/invoke/VarHandle" ∧ (parseMethodDescriptor y.desc).map (fun d => d.parameters.length) = some n)
    (hfr : fr2 + 1 ≤ fr) (hlo : 8 + (maxL + 11) + lo2 ≤ lo) (hc : uc + mc2 ≤ mc) (hs : us + ms2 ≤ ms) (hw : (rest.map fun v => v.category).sum ≤ 8) (hdg : decode cc pc = .ok (.invokestatic idx, 3))
    {st0 : List Value} (hst : st0 = As.reverse ++ rest)
    (kx : ∀ E, ZX X nL A (PX E) (uc + mc2) (us + ms2) pc lv rest E) (kk : ∀ v : Option Value, Z X nL A (P v) (uc + mc2) (us + ms2) (pc + 3) lv (v.toList ++ rest)) : Z X nL A Om uc us pc lv st0 := by
  intro H locs ls hO hS hl
  exact zafter hl hS (vx_runS (As := As) (rest := rest) (zfix cx) hC (va_cwS n cx.ts (lw_S q1 q2 q4 q5) rfl rfl rfl hd ⟨Nat.le_trans hfr cx.hfr, Nat.le_trans hlo cx.hlo⟩) ⟨zblind, zpre cx hO hS⟩ rfl hn hl.1.1 hst (lv_room hw) hdg ⟨Nat.le_trans hc cx.hmc, Nat.le_trans hs cx.hms⟩) kx kk
theorem z_callI (cx : Cx X cc nL own ret fr lo mc ms A G) (hC : Con (zL X) y bytes maxL none fr2 lo2 mc2 ms2 A G (.ref b :: As) Om P PX)
    (q1 : Cond.methodLink own idx y ∈ lw_all) (q2 : Cond.instanceMethod y ∈ lw_all) (q4 : Cond.initialized y.cls ∈ lw_all) (q5 : Cond.code y bytes maxL none ∈ lw_all)
    (hn : As.length = n) (hy : y.name = "<init>") (hd : y.cls ≠ "java/lang/invoke/MethodHandle" ∧ y.cls ≠ "java/lang/invoke/VarHandle" ∧ (parseMethodDescriptor y.desc).map (fun d => d.parameters.length) = some n)
    (hfr : fr2 + 1 ≤ fr) (hlo : 8 + (maxL + 11) + lo2 ≤ lo) (hc : uc + mc2 ≤ mc) (hs : us + ms2 ≤ ms) (hw : (rest.map fun v => v.category).sum ≤ 8) (hdg : decode cc pc = .ok (.invokespecial idx, 3))
    {st0 : List Value} (hst : st0 = As.reverse ++ .ref b :: rest)
    (kx : ∀ E, ZX X nL A (PX E) (uc + mc2) (us + ms2) pc lv rest E) (kk : ∀ v : Option Value, Z X nL A (P v) (uc + mc2) (us + ms2) (pc + 3) lv (v.toList ++ rest)) : Z X nL A Om uc us pc lv st0 := by
  intro H locs ls hO hS hl
  exact zafter hl hS (vx_runI (As := As) (rest := rest) (zfix cx) hC (cwI n cx.ts (lw_meth q5) rfl rfl rfl (cx.ts _ q4) (cx.ts _ q1) (cx.ts _ q2) hy hd ⟨Nat.le_trans hfr cx.hfr, Nat.le_trans hlo cx.hlo⟩) ⟨zblind, zpre cx hO hS⟩ rfl hn hl.1.1 hst (lv_room hw) hdg ⟨Nat.le_trans hc cx.hmc, Nat.le_trans hs cx.hms⟩) kx kk
theorem z_callVN {host : String} (cx : Cx X cc nL own ret fr lo mc ms A G) (hC : Con (zL X) y bytes maxL ret2 fr2 lo2 mc2 ms2 A G (.ref b :: As) Om P PX)
    (q1 : Cond.methodLinkNest own idx y host ∈ lw_tbl) (q2 : Cond.instanceMethod y ∈ lw_all) (q3 : Cond.selects C y y ∈ lw_all) (q4 : Cond.initialized y.cls ∈ lw_all) (q5 : Cond.code y bytes maxL ret2 ∈ lw_all)
    (hr : zrv X A Om b C) (hn : As.length = n) (hd : y.cls ≠ "java/lang/invoke/MethodHandle" ∧ y.cls ≠ "java/lang/invoke/VarHandle" ∧ (parseMethodDescriptor y.desc).map (fun d => d.parameters.length) = some n)
    (hfr : fr2 + 1 ≤ fr) (hlo : 8 + (maxL + 11) + lo2 ≤ lo) (hc : uc + mc2 ≤ mc) (hs : us + ms2 ≤ ms) (hw : (rest.map fun v => v.category).sum ≤ 8) (hdg : decode cc pc = .ok (.invokevirtual idx, 3))
    {st0 : List Value} (hst : st0 = As.reverse ++ .ref b :: rest)
    (kx : ∀ E, ZX X nL A (PX E) (uc + mc2) (us + ms2) pc lv rest E) (kk : ∀ v : Option Value, Z X nL A (P v) (uc + mc2) (us + ms2) (pc + 3) lv (v.toList ++ rest)) : Z X nL A Om uc us pc lv st0 := by
  intro H locs ls hO hS hl
  exact zafter hl hS (vx_runVN (As := As) (rest := rest) (zfix cx) hC ⟨va_cnB n cx.ts (lw_meth q5) rfl rfl rfl (cx.nw q1 rfl) (cx.ts _ q4) hd ⟨Nat.le_trans hfr cx.hfr, Nat.le_trans hlo cx.hlo⟩, cx.ts _ q2, cx.ts _ q3⟩ ⟨zblind, hr H locs hO hS, zpre cx hO hS⟩ rfl hn hl.1.1 hst (lv_room hw) hdg ⟨Nat.le_trans hc cx.hmc, Nat.le_trans hs cx.hms⟩) kx kk
theorem z_callSN {host : String} (cx : Cx X cc nL own ret fr lo mc ms A G) (hC : Con (zL X) y bytes maxL ret2 fr2 lo2 mc2 ms2 A G As Om P PX)
    (q1 : Cond.methodLinkNest own idx y host ∈ lw_tbl) (q2 : Cond.static y ∈ lw_all) (q4 : Cond.initialized y.cls ∈ lw_all) (q5 : Cond.code y bytes maxL ret2 ∈ lw_all)
    (hn : As.length = n) (hd : y.cls ≠ "java/lang/invoke/MethodHandle" ∧ y.cls ≠ "java/lang/invoke/VarHandle" ∧ (parseMethodDescriptor y.desc).map (fun d => d.parameters.length) = some n)
    (hfr : fr2 + 1 ≤ fr) (hlo : 8 + (maxL + 11) + lo2 ≤ lo) (hc : uc + mc2 ≤ mc) (hs : us + ms2 ≤ ms) (hw : (rest.map fun v => v.category).sum ≤ 8) (hdg : decode cc pc = .ok (.invokestatic idx, 3))
    {st0 : List Value} (hst : st0 = As.reverse ++ rest)
    (kx : ∀ E, ZX X nL A (PX E) (uc + mc2) (us + ms2) pc lv rest E) (kk : ∀ v : Option Value, Z X nL A (P v) (uc + mc2) (us + ms2) (pc + 3) lv (v.toList ++ rest)) : Z X nL A Om uc us pc lv st0 := by
  intro H locs ls hO hS hl
  exact zafter hl hS (vx_runSN (As := As) (rest := rest) (zfix cx) hC ⟨va_cnB n cx.ts (lw_meth q5) rfl rfl rfl (cx.nw q1 rfl) (cx.ts _ q4) hd ⟨Nat.le_trans hfr cx.hfr, Nat.le_trans hlo cx.hlo⟩, cx.ts _ q2, trivial⟩ ⟨zblind, zpre cx hO hS⟩ rfl hn hl.1.1 hst (lv_room hw) hdg ⟨Nat.le_trans hc cx.hmc, Nat.le_trans hs cx.hms⟩) kx kk
theorem z_callIN {host : String} (cx : Cx X cc nL own ret fr lo mc ms A G) (hC : Con (zL X) y bytes maxL none fr2 lo2 mc2 ms2 A G (.ref b :: As) Om P PX)
    (q1 : Cond.methodLinkNest own idx y host ∈ lw_tbl) (q2 : Cond.instanceMethod y ∈ lw_all) (q4 : Cond.initialized y.cls ∈ lw_all) (q5 : Cond.code y bytes maxL none ∈ lw_all)
    (hn : As.length = n) (hy : y.name = "<init>") (hd : y.cls ≠ "java/lang/invoke/MethodHandle" ∧ y.cls ≠ "java/lang/invoke/VarHandle" ∧ (parseMethodDescriptor y.desc).map (fun d => d.parameters.length) = some n)
    (hfr : fr2 + 1 ≤ fr) (hlo : 8 + (maxL + 11) + lo2 ≤ lo) (hc : uc + mc2 ≤ mc) (hs : us + ms2 ≤ ms) (hw : (rest.map fun v => v.category).sum ≤ 8) (hdg : decode cc pc = .ok (.invokespecial idx, 3))
    {st0 : List Value} (hst : st0 = As.reverse ++ .ref b :: rest)
    (kx : ∀ E, ZX X nL A (PX E) (uc + mc2) (us + ms2) pc lv rest E) (kk : ∀ v : Option Value, Z X nL A (P v) (uc + mc2) (us + ms2) (pc + 3) lv (v.toList ++ rest)) : Z X nL A Om uc us pc lv st0 := by
  intro H locs ls hO hS hl
  exact zafter hl hS (vx_runIN (As := As) (rest := rest) (zfix cx) hC ⟨va_cnB n cx.ts (lw_meth q5) rfl rfl rfl (cx.nw q1 rfl) (cx.ts _ q4) hd ⟨Nat.le_trans hfr cx.hfr, Nat.le_trans hlo cx.hlo⟩, hy, cx.ts _ q2⟩ ⟨zblind, zpre cx hO hS⟩ rfl hn hl.1.1 hst (lv_room hw) hdg ⟨Nat.le_trans hc cx.hmc, Nat.le_trans hs cx.hms⟩) kx kk
theorem z_callF {count : Nat} (cx : Cx X cc nL own ret fr lo mc ms A G) (hC : Con (zL X) y bytes maxL ret2 fr2 lo2 mc2 ms2 A G (.ref b :: As) Om P PX)
    (q1 : Cond.methodLink own idx x ∈ lw_all) (q2 : Cond.selects RJ2 x y ∈ lw_all) (q3 : Cond.instanceMethod y ∈ lw_all) (q4 : Cond.initialized y.cls ∈ lw_all) (q5 : Cond.code y bytes maxL ret2 ∈ lw_all) (j : Nat) (hF : zFw[j]? = some (RJ2, x, y))
    (hr : zrv X A Om b RJ2) (hn : As.length = n) (hd : x.cls ≠ "java/lang/invoke/MethodHandle" ∧ x.cls ≠ "java/lang/invoke/VarHandle" ∧ (parseMethodDescriptor x.desc).map (fun d => d.parameters.length) = some n)
    (hfr : fr2 + 1 ≤ fr) (hlo : 8 + (maxL + 11) + lo2 ≤ lo) (hc : uc + mc2 ≤ mc) (hs : us + ms2 ≤ ms) (hw : (rest.map fun v => v.category).sum ≤ 8) (hdg : decode cc pc = .ok (.invokeinterface idx count, 5))
    {st0 : List Value} (hst : st0 = As.reverse ++ .ref b :: rest)
    (kx : ∀ E, ZX X nL A (PX E) (uc + mc2) (us + ms2) pc lv rest E) (kk : ∀ v : Option Value, Z X nL A (P v) (uc + mc2) (us + ms2) (pc + 5) lv (v.toList ++ rest)) : Z X nL A Om uc us pc lv st0 := by
  intro H locs ls hO hS hl
  have hat : ClassAt (zS X) RJ2 (G.1.1 15) := (cx.K.1 15 (RJ2, TJ2, 3) rfl).2
  have hG : GoodIn lw_all (va_wsF own idx RJ2 x y (ws_ y bytes maxL ret2)) := by
    refine lw_app ?_ (lw_meth q5)
    intro w hw
    simp only [List.mem_cons, List.not_mem_nil, or_false] at hw
    rcases hw with e | e | e | e
    · rw [e]; exact q1
    · rw [e]; exact q2
    · rw [e]; exact q3
    · rw [e]; exact q4
  exact zafter5 hl hS (vx_runF (As := As) (rest := rest) hat (zfix cx) hC (va_cwF n cx.ts hG rfl rfl rfl (cx.kw.2.2.2.2.2.2.2.2.2.2.2.2.2.2.2.2.2.2.2 _ (List.mem_of_getElem? hF)) hd ⟨Nat.le_trans hfr cx.hfr, Nat.le_trans hlo cx.hlo⟩) ⟨zblind, hr H locs hO hS, zpre cx hO hS⟩ rfl hn hl.1.1 hst (lv_room hw) hdg ⟨Nat.le_trans hc cx.hmc, Nat.le_trans hs cx.hms⟩) kx kk
theorem z_callU {owner : String} (cx : Cx X cc nL own ret fr lo mc ms A G) (hC : Con (zL X) y bytes maxL ret2 fr2 lo2 mc2 ms2 A G (.ref b :: As) Om P PX)
    (q1 : Cond.methodLink own idx x ∈ lw_all) (q2 : Cond.sameMethod x.cls owner x.name x.desc ∈ lw_all) (q3 : Cond.selects C x y ∈ lw_all) (q4 : Cond.instanceMethod y ∈ lw_all) (q6 : Cond.initialized y.cls ∈ lw_all) (q5 : Cond.code y bytes maxL ret2 ∈ lw_all)
    (hyx : y = ⟨owner, x.name, x.desc⟩) (hr : zrv X A Om b C) (hn : As.length = n) (hd : owner ≠ "java/lang/invoke/MethodHandle" ∧ owner ≠ "java/lang/invoke/VarHandle" ∧ (parseMethodDescriptor x.desc).map (fun d => d.parameters.length) = some n)
    (hfr : fr2 + 1 ≤ fr) (hlo : 8 + (maxL + 11) + lo2 ≤ lo) (hc : uc + mc2 ≤ mc) (hs : us + ms2 ≤ ms) (hw : (rest.map fun v => v.category).sum ≤ 8) (hdg : decode cc pc = .ok (.invokevirtual idx, 3))
    {st0 : List Value} (hst : st0 = As.reverse ++ .ref b :: rest)
    (kx : ∀ E, ZX X nL A (PX E) (uc + mc2) (us + ms2) pc lv rest E) (kk : ∀ v : Option Value, Z X nL A (P v) (uc + mc2) (us + ms2) (pc + 3) lv (v.toList ++ rest)) : Z X nL A Om uc us pc lv st0 := by
  intro H locs ls hO hS hl
  have hG : GoodIn lw_all (va_wsU own idx C owner x y (ws_ y bytes maxL ret2)) := by
    refine lw_app ?_ (lw_meth q5)
    intro w hw
    simp only [List.mem_cons, List.not_mem_nil, or_false] at hw
    rcases hw with e | e | e | e | e
    · rw [e]; exact q1
    · rw [e]; exact q2
    · rw [e]; exact q3
    · rw [e]; exact q4
    · rw [e]; exact q6
  exact zafter hl hS (vx_runU (As := As) (rest := rest) (zfix cx) hC (va_cwU n cx.ts hG rfl rfl rfl hyx hd ⟨Nat.le_trans hfr cx.hfr, Nat.le_trans hlo cx.hlo⟩) ⟨zblind, hr H locs hO hS, zpre cx hO hS⟩ rfl hn hl.1.1 hst (lv_room hw) hdg ⟨Nat.le_trans hc cx.hmc, Nat.le_trans hs cx.hms⟩) kx kk
/-! typed ends: the world stays (zq), the world moves (zp) -/
def zqI (Om : Heap → Prop) (K : Int32 → Prop) : Option Value → Heap → Prop := fun v H => ∃ r, v = some (.int r) ∧ K r ∧ Om H
def zqR (Om : Heap → Prop) (K : Nat → Prop) : Option Value → Heap → Prop := fun v H => ∃ r, v = some (.ref r) ∧ K r ∧ Om H
def zqN (Om : Heap → Prop) (K : Option Nat → Prop) : Option Value → Heap → Prop := fun v H => ∃ r, v = some (va_rf r) ∧ K r ∧ Om H
def zqV (Om : Heap → Prop) (K : Prop) : Option Value → Heap → Prop := fun v H => v = none ∧ K ∧ Om H
def zpI {S : Type} (Wd : S → Heap → Prop) (K : Int32 → S → Prop) : Option Value → Heap → Prop := fun v H => ∃ r σ, v = some (.int r) ∧ K r σ ∧ Wd σ H
def zpR {S : Type} (Wd : S → Heap → Prop) (K : Nat → S → Prop) : Option Value → Heap → Prop := fun v H => ∃ r σ, v = some (.ref r) ∧ K r σ ∧ Wd σ H
def zpN {S : Type} (Wd : S → Heap → Prop) (K : Option Nat → S → Prop) : Option Value → Heap → Prop := fun v H => ∃ r σ, v = some (va_rf r) ∧ K r σ ∧ Wd σ H
def zpV {S : Type} (Wd : S → Heap → Prop) (K : S → Prop) : Option Value → Heap → Prop := fun v H => ∃ σ, v = none ∧ K σ ∧ Wd σ H
def zxN : String → Heap → Prop := fun _ _ => False
def zxq (Om : Heap → Prop) (K : String → Prop) : String → Heap → Prop := fun E H => K E ∧ Om H
def zxp {S : Type} (Wd : S → Heap → Prop) (K : String → S → Prop) : String → Heap → Prop := fun E H => ∃ σ, K E σ ∧ Wd σ H
variable {S : Type} {Wd : S → Heap → Prop}
theorem zo_qI {K : Int32 → Prop} (k : ∀ r, K r → Z X nL A Om uc us pc lv (.int r :: rest)) : ∀ v : Option Value, Z X nL A (zqI Om K v) uc us pc lv (v.toList ++ rest) := fun v H locs ls hO hS hl => by
  obtain ⟨r, rfl, h1, h2⟩ := hO
  exact k r h1 H locs ls h2 hS hl
theorem zo_qR {K : Nat → Prop} (k : ∀ r, K r → Z X nL A Om uc us pc lv (.ref r :: rest)) : ∀ v : Option Value, Z X nL A (zqR Om K v) uc us pc lv (v.toList ++ rest) := fun v H locs ls hO hS hl => by
  obtain ⟨r, rfl, h1, h2⟩ := hO
  exact k r h1 H locs ls h2 hS hl
theorem zo_qN {K : Option Nat → Prop} (k : ∀ r, K r → Z X nL A Om uc us pc lv (va_rf r :: rest)) : ∀ v : Option Value, Z X nL A (zqN Om K v) uc us pc lv (v.toList ++ rest) := fun v H locs ls hO hS hl => by
  obtain ⟨r, rfl, h1, h2⟩ := hO
  exact k r h1 H locs ls h2 hS hl
theorem zo_qV {K : Prop} (k : K → Z X nL A Om uc us pc lv rest) : ∀ v : Option Value, Z X nL A (zqV Om K v) uc us pc lv (v.toList ++ rest) := fun v H locs ls hO hS hl => by
  obtain ⟨rfl, h1, h2⟩ := hO
  exact k h1 H locs ls h2 hS hl
theorem zo_pI {K : Int32 → S → Prop} (k : ∀ r σ, K r σ → Z X nL A (Wd σ) uc us pc lv (.int r :: rest)) : ∀ v : Option Value, Z X nL A (zpI Wd K v) uc us pc lv (v.toList ++ rest) := fun v H locs ls hO hS hl => by
  obtain ⟨r, σ, rfl, h1, h2⟩ := hO
  exact k r σ h1 H locs ls h2 hS hl
theorem zo_pR {K : Nat → S → Prop} (k : ∀ r σ, K r σ → Z X nL A (Wd σ) uc us pc lv (.ref r :: rest)) : ∀ v : Option Value, Z X nL A (zpR Wd K v) uc us pc lv (v.toList ++ rest) := fun v H locs ls hO hS hl => by
  obtain ⟨r, σ, rfl, h1, h2⟩ := hO
  exact k r σ h1 H locs ls h2 hS hl
theorem zo_pN {K : Option Nat → S → Prop} (k : ∀ r σ, K r σ → Z X nL A (Wd σ) uc us pc lv (va_rf r :: rest)) : ∀ v : Option Value, Z X nL A (zpN Wd K v) uc us pc lv (v.toList ++ rest) := fun v H locs ls hO hS hl => by
  obtain ⟨r, σ, rfl, h1, h2⟩ := hO
  exact k r σ h1 H locs ls h2 hS hl
theorem zo_pV {K : S → Prop} (k : ∀ σ, K σ → Z X nL A (Wd σ) uc us pc lv rest) : ∀ v : Option Value, Z X nL A (zpV Wd K v) uc us pc lv (v.toList ++ rest) := fun v H locs ls hO hS hl => by
  obtain ⟨σ, rfl, h1, h2⟩ := hO
  exact k σ h1 H locs ls h2 hS hl
/-- a callee that throws nothing -/
theorem zx_none : ∀ E, ZX X nL A (zxN E) uc us pc lv rest E := fun _ _ _ _ _ _ hO => hO.elim
/-- an exception goes on to the caller, in a method without handlers -/
theorem zx_out {P0 : Option Value → Heap → Prop} {PX0 : String → Heap → Prop} (cx : Cx X cc nL own ret fr lo mc ms A G) (ex : zGoal X P0 PX0 A mc ms) (hno : ∀ z ∈ (zC X).exceptionTable.toList, False) (h : ∀ E H, PX E H → PX0 E H) (h1 : uc ≤ mc) (h2 : us ≤ ms) : ∀ E, ZX X nL A (PX E) uc us pc lv rest E := fun E H locs ls q ce hO hS hl g1 g2 g3 => by
  show vx_W _ _ _ _ _ _ _ _ _ _ _ _ _ _ (zQ X) _ _
  rw [ex]
  exact vx_out (fun z hz => (hno z hz).elim) cx.locks g1 g2 g3 (fun t ht hW => ⟨by rw [ht]; exact h E H hO, hS.F ht⟩) hS.2.2 h1 h2
/-- throw new E() -/
theorem z_throw0 {P0 : Option Value → Heap → Prop} {PX0 : String → Heap → Prop} {E : String} {names : List String} {ik ic : Nat} (cx : Cx X cc nL own ret fr lo mc ms A G) (ex : zGoal X P0 PX0 A mc ms) (hno : ∀ z ∈ (zC X).exceptionTable.toList, False)
    (hcls : Bundle.fit E = true) (hnames : ∀ n ∈ names, Bundle.fit n = true) (qk : Cond.classLink own ik E ∈ lw_all) (qi : Cond.initialized E ∈ lw_all) (hat : ∀ w ∈ vx_at0 own ic E names, w ∈ lw_tbl ∧ (goodWord w || zmv w) = true)
    (hgood : ∀ w ∈ Cond.classLink own ik E :: Cond.initialized E :: vx_at0 own ic E names, vx_ot w = true)
    (d0 : decode cc pc = .ok (.new ik, 3)) (d3 : decode cc (pc + 3) = .ok (.dup, 1)) (d4 : decode cc (pc + 4) = .ok (.invokespecial ic, 3)) (d7 : decode cc (pc + 7) = .ok (.athrow, 1))
    (hfr : names.length + 3 < fr) (hlo : (rest.map fun v => v.category).sum + (13 * (names.length + 1) + 42) ≤ lo) (hc : uc + 1 ≤ mc) (hs : us + 6 ≤ ms)
    (hst : ∀ H H1 : Heap, Om H → H.size ≤ H1.size → (∀ q : Nat, q < H.size → H1[q]? = H[q]?) → Om H1) (h : ∀ H, Om H → PX0 E H) : Z X nL A Om uc us pc lv rest := fun H locs ls hO hS hl => by
  show W _ _ _ _ _ _ _ _ _ _ _ _ _ _ (zQ X) _
  rw [ex]
  refine vx_throw0 cx.exec cx.code cx.quiet cx.ow hcls hnames (cx.ts _ qk) (cx.ts _ qi) (fun w hw => ?_) hgood cx.kw.2.2.2.1 cx.kw.2.2.2.2.1 hS (hl.1.1.trans cx.maxL.symm) d0 d3 d4 d7 (fun z hz => (hno z hz).elim) (Nat.lt_of_lt_of_le hfr cx.hfr) (Nat.le_trans hlo cx.hlo) (Nat.le_trans hc cx.hmc) (Nat.le_trans hs cx.hms) cx.locks
    (fun t hvm hz ho => ⟨h _ (hst H _ hO hz ho), Nat.le_trans hS.1 hz, fun q h1 h2 => (ho q (Nat.lt_of_lt_of_le h1 hS.1)).trans (hS.2.1 q h1 h2)⟩) hS.2.2 hc hs
  obtain ⟨h1, h2⟩ := hat w hw
  rcases Bool.or_eq_true_iff.mp h2 with g | g
  · exact cx.ts _ (lw_g h1 g)
  · exact va_Nw.use (zmv_tab g) (cx.nw h1 g)
end ZCA

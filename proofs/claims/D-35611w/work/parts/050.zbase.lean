/-! THE LAYER ABOVE THE KIT'S ROWS: a walk's context as one tuple, the heap under a predicate, locals as a sorted list. -/
set_option maxRecDepth 100000
section ZB
abbrev zX : Type := Program × Launch × Env × Room × State × MethodId × Array Value × List Frame × Method × Code × (State → Prop)
abbrev zP (X : zX) : Program := X.1
abbrev zL (X : zX) : Launch := X.2.1
abbrev zE (X : zX) : Env := X.2.2.1
abbrev zR (X : zX) : Room := X.2.2.2.1
abbrev zS (X : zX) : State := X.2.2.2.2.1
abbrev zM (X : zX) : MethodId := X.2.2.2.2.2.1
abbrev zAr (X : zX) : Array Value := X.2.2.2.2.2.2.1
abbrev zB (X : zX) : List Frame := X.2.2.2.2.2.2.2.1
abbrev zMe (X : zX) : Method := X.2.2.2.2.2.2.2.2.1
abbrev zC (X : zX) : Code := X.2.2.2.2.2.2.2.2.2.1
abbrev zQ (X : zX) : State → Prop := X.2.2.2.2.2.2.2.2.2.2
abbrev zW (X : zX) (H : Heap) (locs : List Loc) (uc us : Nat) (g : JFrame) : Prop := W (zP X) (zL X) (zE X) (zR X) (zS X) (zM X) (zAr X) (zB X) (zMe X) (zC X) H locs uc us (zQ X) g
abbrev zWX (X : zX) (H : Heap) (locs : List Loc) (uc us : Nat) (g : JFrame) (q : Addr) : Prop := vx_W (zP X) (zL X) (zE X) (zR X) (zS X) (zM X) (zAr X) (zB X) (zMe X) (zC X) H locs uc us (zQ X) g q
/-- the classes of the system -/
def zCl : List vw_C := [(RX1, TX1, 21), (RX2, TX2, 1), (RX3, TX3, 1), (RX4, TX4, 1), (RX5, TX5, 2), (RX6, TX6, 4), (RX8, TX8, 3), (RX9, TX9, 11), (RX10, TX10, 2), (RX11, TX11, 3), (RX12, TX12, 4), (RX13, TX13, 2), (RX14, TX14, 2), (RX15, TX15, 6), (RX16, TX16, 5), (RJ2, TJ2, 3), (RJ18, TJ18, 1), (RX7, TX7, 72)]
/-- what is known of the launch: classes and field slots, array classes, constant objects (0..255 the cached Integers, 256 and 257 ArrayList's two empty arrays, 258 and 259 two mirrors, 260 the cache's array) -/
abbrev zG : Type := va_G × (Nat → ClassId) × (Nat → Nat)
def zTy (G : zG) : List (ClassId × FieldType) := [(G.2.1 0, .int), (G.2.1 1, .object "java/lang/Object"), (G.2.1 2, .object "CrateDeck$Forward"), (G.2.1 3, .array .int), (G.2.1 4, .boolean), (G.2.1 5, .long)]
/-- words that are carried by every contract's start -/
def zmv : Cond → Bool
  | .castable _ _ => true
  | .declares _ => true
  | .interfaceMethod _ _ _ _ => true
  | .publicMethod _ => true
  | .unhidden _ _ _ => true
  | .methodLinkNest _ _ _ _ => true
  | .fieldLinkNest _ _ _ _ _ _ => true
  | _ => false
/-- the calls through an interface -/
def zFw : List (String × MethodName × MethodName) := [
  (RJ2, ⟨"java/util/List", "add", "(Ljava/lang/Object;)Z"⟩, yJ2_add), (RJ2, ⟨"java/util/List", "size", "()I"⟩, yJ2_size), (RJ2, ⟨"java/util/List", "get", "(I)Ljava/lang/Object;"⟩, yJ2_get), (RJ2, ⟨"java/util/List", "remove", "(I)Ljava/lang/Object;"⟩, yJ2_remove),
  (RJ2, ⟨"java/util/List", "clear", "()V"⟩, yJ2_clear), (RJ2, ⟨"java/util/List", "addAll", "(Ljava/util/Collection;)Z"⟩, yJ2_addAll), (RJ2, ⟨"java/util/List", "remove", "(Ljava/lang/Object;)Z"⟩, yJ2_remove_2), (RJ2, ⟨"java/util/Collection", "toArray", "()[Ljava/lang/Object;"⟩, yJ2_toArray)]
def KW (G : zG) (A : Nat → Prop) (U : State) : Prop :=
  va_K G.1 zCl (zTy G) U ∧ (∀ w ∈ lw_tbl, zmv w = true → va_Nw w U) ∧ vb_C G.2.2 A U U.heap ∧
  vx_Zq Bundle.tN "UNASSIGNED_STACK" Bundle.steD A U U.heap ∧ vx_Zq Bundle.tN "SUPPRESSED_SENTINEL" Bundle.listD A U U.heap ∧
  va_Z "java/util/ArrayList" "DEFAULTCAPACITY_EMPTY_ELEMENTDATA" "[Ljava/lang/Object;" (.ref (G.2.2 256)) A U U.heap ∧
  va_Z "java/util/ArrayList" "EMPTY_ELEMENTDATA" "[Ljava/lang/Object;" (.ref (G.2.2 257)) A U U.heap ∧
  va_T (.object "java/lang/Object") (G.2.2 256) 0 (fun _ => .null) A U U.heap ∧ va_T (.object "java/lang/Object") (G.2.2 257) 0 (fun _ => .null) A U U.heap ∧ G.2.2 256 ≠ G.2.2 257 ∧
  va_Z "java/lang/Integer$IntegerCache" "high" "I" (.int 127) A U U.heap ∧ va_Z "java/lang/Integer$IntegerCache" "cache" "[Ljava/lang/Integer;" (.ref (G.2.2 260)) A U U.heap ∧
  va_T (.object "java/lang/Integer") (G.2.2 260) 256 (fun k => .ref (G.2.2 k)) A U U.heap ∧
  va_Mi "java/util/ArrayList" (G.2.2 258) U ∧ va_Mi "[Ljava/lang/Object;" (G.2.2 259) U ∧ va_AO "java/lang/Object" U ∧ va_AO "CrateDeck$Forward" U ∧ va_O "[Ljava/lang/Object;" (G.2.2 256) A U U.heap ∧ va_O "[Ljava/lang/Object;" (G.2.2 257) A U U.heap ∧ (∀ f ∈ zFw, va_Fw f.1 f.2.1 f.2.2 U)
theorem zFw_ok : ∀ f ∈ zFw, f.2.1.cls ≠ "java/lang/invoke/MethodHandle" ∧ f.2.1.cls ≠ "java/lang/invoke/VarHandle" := by decide +kernel
theorem zmv_tab {w : Cond} (h : zmv w = true) : w.onTables = true := by
  cases w <;> first | rfl | (simp [zmv] at h)
theorem zmv_warm {w : Cond} (h : zmv w = true) {s U : State} (hW : s.WarmedH U.vm) (hZ : va_Nw w s) : va_Nw w U := by
  have hal := hW.alike
  cases w <;> first | (simp [zmv] at h; done) | skip
  all_goals first | exact va_Nw.warmC hW hZ | exact va_Nw.warmD hW hZ | exact va_Nw.warmM hW hZ | exact va_Nw.warmF hW hZ | skip
  · rename_i a1 a2 a3 a4
    have h1 : (Cond.interfaceMethod a1 a2 a3 a4).before #[] (s.setVm U.vm) = (Cond.interfaceMethod a1 a2 a3 a4).before #[] s := by
      simp only [Cond.before, Cond.holds, Cond.value, State.vm_setVm, hal.findClass, State.methodFound?_setVm hal, State.methodNamed?_setVm hal, arm_isInterface_setVm hal]
    exact va_tabs rfl (rfl : (s.setVm U.vm).vm = U.vm) (h1.trans hZ)
  all_goals first | exact va_tabs rfl (rfl : (s.setVm U.vm).vm = U.vm) ((Cond.unhidden_setVm hal _ _ _).trans hZ) | exact va_tabs rfl (rfl : (s.setVm U.vm).vm = U.vm) ((Cond.publicMethod_setVm hal _).trans hZ) | exact va_tabs rfl (rfl : (s.setVm U.vm).vm = U.vm) (by rw [Cond.publicMethod_setVm hal]; exact hZ)
/-- from a method's start to a callee's -/
theorem KW.step {G : zG} {A : Nat → Prop} {s U : State} (h : KW G A s) (hW : s.WarmedH U.vm) (hq : ∀ q : Nat, q < s.heap.size → ¬ A q → U.heap[q]? = s.heap[q]?) : KW G A U := by
  have hvm := hW.alike
  obtain ⟨h1, h2, h3, h4, h5, h6, h7, h8, h9, h10, h11, h12, h13, h14, h15, h16, h17, h18, h19, h20⟩ := h
  exact ⟨va_K.moved hvm h1, fun w hw hm => zmv_warm hm hW (h2 w hw hm), (vb_C.moved hvm h3).kept hq, (vx_Zq.moved hvm h4).kept hq, (vx_Zq.moved hvm h5).kept hq, (va_Z.moved hvm h6).kept hq, (va_Z.moved hvm h7).kept hq, (va_T.moved hvm h8).kept hq, (va_T.moved hvm h9).kept hq, h10, (va_Z.moved hvm h11).kept hq, (va_Z.moved hvm h12).kept hq, (va_T.moved hvm h13).kept hq, va_Mi.moved hvm h14, va_Mi.moved hvm h15, va_AO.moved hvm h16, va_AO.moved hvm h17, (va_O.moved hvm h18).kept hq, (va_O.moved hvm h19).kept hq, fun f hf => va_Fw.moved (zFw_ok f hf) hvm (h20 f hf)⟩
theorem KW.calling {G : zG} {A : Nat → Prop} {U : State} (g : JFrame) (mk : MethodId) (a : Array Value) (h : KW G A U) : KW G A (U.calling g mk a) := by
  have hvm : U.vm.Alike (U.calling g mk a).vm := Vm.Alike.refl U.vm
  obtain ⟨h1, h2, h3, h4, h5, h6, h7, h8, h9, h10, h11, h12, h13, h14, h15, h16, h17, h18, h19, h20⟩ := h
  exact ⟨va_K.moved hvm h1, fun w hw hm => va_Nw.same (u := U) (zmv_tab hm) rfl (h2 w hw hm), vb_C.moved hvm h3, vx_Zq.moved hvm h4, vx_Zq.moved hvm h5, va_Z.moved hvm h6, va_Z.moved hvm h7, va_T.moved hvm h8, va_T.moved hvm h9, h10, va_Z.moved hvm h11, va_Z.moved hvm h12, va_T.moved hvm h13, va_Mi.moved hvm h14, va_Mi.moved hvm h15, va_AO.moved hvm h16, va_AO.moved hvm h17, va_O.moved hvm h18, va_O.moved hvm h19, fun f hf => va_Fw.moved (zFw_ok f hf) hvm (h20 f hf)⟩
/-- locals: all of one slot -/
def zl (ls : Array Slot) (nL : Nat) (lv : List (Nat × Value)) : Prop := lv_has ls nL lv ∧ ∀ q ∈ lv, q.2.category = 1
def zins : Nat → Value → List (Nat × Value) → List (Nat × Value)
  | i, v, [] => [(i, v)]
  | i, v, (j, w) :: t => bif Nat.blt i j then (i, v) :: (j, w) :: t else (j, w) :: zins i v t
def zup (lv : List (Nat × Value)) (i : Nat) (v : Value) : List (Nat × Value) := zins i v (lv.filter (fun q => !(Nat.beq q.1 i)))
theorem zins_mem {i : Nat} {v : Value} {q : Nat × Value} : ∀ {l : List (Nat × Value)}, q ∈ zins i v l → q = (i, v) ∨ q ∈ l
  | [], h => by simp [zins] at h; exact Or.inl h
  | (j, w) :: t, h => by
    unfold zins at h
    cases hb : Nat.blt i j with
    | true => rw [hb] at h; simp only [cond_true, List.mem_cons] at h; rcases h with h | h | h <;> simp [h]
    | false =>
      rw [hb] at h
      simp only [cond_false, List.mem_cons] at h
      rcases h with h | h
      · simp [h]
      · rcases zins_mem h with h | h <;> simp [h]
theorem zup_mem {lv : List (Nat × Value)} {i : Nat} {v : Value} {q : Nat × Value} (h : q ∈ zup lv i v) : q = (i, v) ∨ (q ∈ lv ∧ q.1 ≠ i) := by
  rcases zins_mem h with h | h
  · exact Or.inl h
  · obtain ⟨h1, h2⟩ := List.mem_filter.mp h
    refine Or.inr ⟨h1, fun e => ?_⟩
    rw [e] at h2
    simp at h2
theorem va_rf_cat (r : Option Nat) : (va_rf r).category = 1 := by cases r <;> rfl
/-- the kit's list behind a store, as a sorted one -/
theorem zl_store {ls ls' : Array Slot} {nL i : Nat} {v : Value} {lv : List (Nat × Value)} (h : zl ls nL lv) (hv : v.category = 1) (h' : lv_has ls' nL ((i, v) :: lv.filter (fun q => !(q.1 == i) && !(q.1 + 1 == i && q.2.category == 2)))) : zl ls' nL (zup lv i v) := by
  refine ⟨⟨h'.1, h'.2.1, fun q hq => ?_⟩, fun q hq => ?_⟩
  · rcases zup_mem hq with e | ⟨h1, h2⟩
    · exact h'.2.2 q (by rw [e]; exact List.mem_cons_self)
    · exact h'.2.2 q (List.mem_cons_of_mem _ (List.mem_filter.mpr ⟨h1, by simp [h2, h.2 q h1]⟩))
  · rcases zup_mem hq with e | ⟨h1, h2⟩
    · rw [e]; exact hv
    · exact h.2 q h1
theorem zl_sub {ls : Array Slot} {nL : Nat} {lv lv' : List (Nat × Value)} (h : zl ls nL lv) (ks : List Nat) (hl : lv_pick lv ks = lv') : zl ls nL lv' := by
  refine ⟨lv_sub h.1 ks hl, fun q hq => ?_⟩
  rw [← hl] at hq
  obtain ⟨k, -, hk⟩ := List.mem_filterMap.mp hq
  exact h.2 q (List.mem_of_getElem? hk)
theorem zl_at {ls : Array Slot} {nL : Nat} {lv : List (Nat × Value)} (h : zl ls nL lv) (k : Nat) {i : Nat} {v : Value} (hk : lv[k]? = some (i, v)) : ls[i]? = some (.val v) := lv_at h.1 k hk
/-- THE WALK at a pc: under any heap of the world Om, with the locals lv, from uc cells and us slots used -/
def Z (X : zX) (nL : Nat) (A : Nat → Prop) (Om : Heap → Prop) (uc us pc : Nat) (lv : List (Nat × Value)) (st : List Value) : Prop :=
  ∀ (H : Heap) (locs : List Loc) (ls : Array Slot), Om H → va_S A (zS X).heap H locs → zl ls nL lv → zW X H locs uc us (F0 (zM X) pc ls st)
/-- THE WALK where an exception of class E has been thrown -/
def ZX (X : zX) (nL : Nat) (A : Nat → Prop) (Om : Heap → Prop) (uc us pc : Nat) (lv : List (Nat × Value)) (rest : List Value) (E : String) : Prop :=
  ∀ (H : Heap) (locs : List Loc) (ls : Array Slot) (q : Addr) (ce : Cell), Om H → va_S A (zS X).heap H locs → zl ls nL lv → H[q]? = some ce → ce.vm = .none → (zS X).vm.findClass E = some ce.cls → zWX X H locs uc us (F0 (zM X) pc ls rest) q
/-- what a walk leans on -/
def Cx (X : zX) (cc : ByteArray) (nL : Nat) (own : String) (ret : Option FieldType) (fr lo mc ms : Nat) (A : Nat → Prop) (G : zG) : Prop :=
  (zP X).tables.exec = Jvm.exec ∧ (zC X).code = cc ∧ (zC X).maxLocals = nL ∧ (zMe X).sig.returnType = ret ∧ (zMe X).locks = false ∧ (zS X).vm.findClass own = some (zM X).cls ∧ (∀ w ∈ lw_all, w.before (zAr X) (zS X) = true) ∧ KW G A (zS X) ∧
  (∀ q, (zS X).heap.size ≤ q → A q) ∧ (zL X).stackTraces = false ∧ fr ≤ (zR X).frames ∧ lo ≤ (zR X).locals ∧ mc ≤ (zR X).cells ∧ ms ≤ (zR X).slots
variable {X : zX} {cc : ByteArray} {nL : Nat} {own : String} {ret : Option FieldType} {fr lo mc ms : Nat} {A : Nat → Prop} {G : zG}
theorem Cx.exec (c : Cx X cc nL own ret fr lo mc ms A G) : (zP X).tables.exec = Jvm.exec := c.1
theorem Cx.code (c : Cx X cc nL own ret fr lo mc ms A G) : (zC X).code = cc := c.2.1
theorem Cx.maxL (c : Cx X cc nL own ret fr lo mc ms A G) : (zC X).maxLocals = nL := c.2.2.1
theorem Cx.rt (c : Cx X cc nL own ret fr lo mc ms A G) : (zMe X).sig.returnType = ret := c.2.2.2.1
theorem Cx.locks (c : Cx X cc nL own ret fr lo mc ms A G) : (zMe X).locks = false := c.2.2.2.2.1
theorem Cx.ow (c : Cx X cc nL own ret fr lo mc ms A G) : (zS X).vm.findClass own = some (zM X).cls := c.2.2.2.2.2.1
theorem Cx.ts (c : Cx X cc nL own ret fr lo mc ms A G) : ∀ w ∈ lw_all, w.before (zAr X) (zS X) = true := c.2.2.2.2.2.2.1
theorem Cx.kw (c : Cx X cc nL own ret fr lo mc ms A G) : KW G A (zS X) := c.2.2.2.2.2.2.2.1
theorem Cx.hA (c : Cx X cc nL own ret fr lo mc ms A G) : ∀ q, (zS X).heap.size ≤ q → A q := c.2.2.2.2.2.2.2.2.1
theorem Cx.quiet (c : Cx X cc nL own ret fr lo mc ms A G) : (zL X).stackTraces = false := c.2.2.2.2.2.2.2.2.2.1
theorem Cx.hfr (c : Cx X cc nL own ret fr lo mc ms A G) : fr ≤ (zR X).frames := c.2.2.2.2.2.2.2.2.2.2.1
theorem Cx.hlo (c : Cx X cc nL own ret fr lo mc ms A G) : lo ≤ (zR X).locals := c.2.2.2.2.2.2.2.2.2.2.2.1
theorem Cx.hmc (c : Cx X cc nL own ret fr lo mc ms A G) : mc ≤ (zR X).cells := c.2.2.2.2.2.2.2.2.2.2.2.2.1
theorem Cx.hms (c : Cx X cc nL own ret fr lo mc ms A G) : ms ≤ (zR X).slots := c.2.2.2.2.2.2.2.2.2.2.2.2.2
theorem Cx.K (c : Cx X cc nL own ret fr lo mc ms A G) : va_K G.1 zCl (zTy G) (zS X) := c.kw.1
/-- a word that doesn't ride in the lists -/
theorem Cx.nw (c : Cx X cc nL own ret fr lo mc ms A G) {w : Cond} (h : w ∈ lw_tbl) (hm : zmv w = true) : va_Nw w (zS X) := c.kw.2.1 w h hm
/-- the goal of a method: it returns with P, or throws with PX -/
def zGoal (X : zX) (P : Option Value → Heap → Prop) (PX : String → Heap → Prop) (A : Nat → Prop) (mc ms : Nat) : Prop :=
  zQ X = vx_MQ (zB X) (fun _ st oc t => (∃ v, oc = .returned v ∧ P v t.heap) ∧ va_F A st t) (fun E st t => PX E t.heap ∧ va_F A st t) (zAr X) (zS X) mc ms A
/-- A CONTRACT: from any heap of Om, with the values av, y returns with P or throws with PX; what isn't in A stays -/
def Con (l : Launch) (y : MethodName) (cc : ByteArray) (maxL : Nat) (ret : Option FieldType) (fr lo mc ms : Nat) (A : Nat → Prop) (G : zG) (av : List Value) (Om : Heap → Prop) (P : Option Value → Heap → Prop) (PX : String → Heap → Prop) : Prop :=
  vx_Met l y (ws_ y cc maxL ret) { frames := fr, cells := mc, slots := ms, locals := lo } (va_Pc av (fun U => (∀ q, U.heap.size ≤ q → A q) ∧ KW G A U ∧ Om U.heap)) (fun _ st oc t => (∃ v, oc = .returned v ∧ P v t.heap) ∧ va_F A st t) (fun E st t => PX E t.heap ∧ va_F A st t) mc ms A
theorem z_ofW {l : Launch} {y : MethodName} {ws ws' : List Cond} {rm : Room} {Pc : Array Value → State → Prop} {Qc : Array Value → State → Outcome → State → Prop} {XC : String → State → State → Prop} {mc ms : Nat} {free : Addr → Prop} {cc : ByteArray} {maxL : Nat} {ret : Option FieldType}
    (hy : plainFor y = true) (hw : ws = Cond.code y cc maxL ret :: ws')
    (body : ∀ p e s m args below meth c s₁, BodyLoose p l y (headSpec ws rm) cc maxL ret e s m args below meth c s₁ → c.maxLocals = maxL → (∀ x ∈ c.exceptionTable.toList, False) → Pc args s →
      W p l e (headSpec ws rm).room s m args below meth c s.heap [] 0 0 (vx_MQ below Qc XC args s mc ms free) (entryFrame m args maxL)) : vx_Met l y ws rm Pc Qc XC mc ms free := by
  refine MetFree.of_bodySF (code := cc) (maxLocals := maxL) (ret := ret) hy ?_ ?_
  · intro args s m h hn
    obtain ⟨meth, c, h1, h2, h3, h4, h5, h6, -, -⟩ := Cond.code_spec hn (atoms_spec (ws := ws) h _ (by rw [hw]; exact List.mem_cons_self))
    exact ⟨meth, c, h1, h2, h3, h4, h5, h6⟩
  · intro p e s m args below meth c s₁ B hml hP _
    have hh0 : s₁.heap = s.heap := by rw [B.state]; rfl
    have ht : ∀ x ∈ c.exceptionTable.toList, False := by
      obtain ⟨meth9, c9, h1, h2, -, -, -, -, h7, -⟩ := Cond.code_spec B.named (atoms_spec (ws := ws) B.pre _ (by rw [hw]; exact List.mem_cons_self))
      cases Option.some.inj (h1.symm.trans B.method)
      cases Option.some.inj (h2.symm.trans (Stand.of_body B).code)
      intro x hx
      rw [Array.isEmpty_iff.mp h7] at hx
      cases hx
    obtain ⟨t, a1, o, b1, b2, b3⟩ := body p e s m args below meth c s₁ B hml ht hP s₁ hh0 (Stand.of_body B)
    exact ⟨t, o, a1, b1, b2, b3⟩
theorem Con.of {l : Launch} {y : MethodName} {cc : ByteArray} {maxL : Nat} {ret : Option FieldType} {fr lo mc ms : Nat} {A : Nat → Prop} {G : zG} {av : List Value} {Om : Heap → Prop} {P : Option Value → Heap → Prop} {PX : String → Heap → Prop}
    (hl : l.stackTraces = false) (hy : plainFor y = true) (hn : (lg_sl av).length ≤ maxL) (lv : List (Nat × Value)) (hlv : lv_args 0 av = lv) (hc : lv.all (fun q => q.2.category == 1) = true)
    (body : ∀ X : zX, Cx X cc maxL y.cls ret fr lo mc ms A G → (zMe X).name = y.name → (∀ x ∈ (zC X).exceptionTable.toList, False) → zGoal X P PX A mc ms → Z X maxL A Om 0 0 0 lv []) : Con l y cc maxL ret fr lo mc ms A G av Om P PX := by
  refine z_ofW (cc := cc) (maxL := maxL) (ret := ret) hy rfl ?_
  intro p e s m args below meth c s₁ B hml hno hv
  obtain ⟨rfl, hA, hKW, hO⟩ := hv
  have hts := atoms_spec (ws := ws_ y cc maxL ret) B.pre
  have hts : ∀ w ∈ lw_all, w.before _ s = true := fun w h => hts w (List.mem_cons_of_mem _ h)
  have hown : s.vm.findClass y.cls = some m.cls := findClass_of_methodNamed B.named
  have hl0 := lv_entry av (n := maxL) hn
  rw [lg_entry_eq]
  generalize (lg_sl av ++ List.replicate (maxL - (lg_sl av).length) Slot.unset).toArray = ls at hl0 ⊢
  rw [hlv] at hl0
  refine body (p, l, e, { frames := fr, cells := mc, slots := ms, locals := lo }, s, m, av.toArray, below, meth, c, vx_MQ below (fun _ st oc t => (∃ v, oc = .returned v ∧ P v t.heap) ∧ va_F A st t) (fun E st t => PX E t.heap ∧ va_F A st t) av.toArray s mc ms A) ⟨B.exec, B.bytes, hml, B.returns, B.notSynchronized, hown, hts, hKW, hA, hl, Nat.le_refl _, Nat.le_refl _, Nat.le_refl _, Nat.le_refl _⟩ (name_of_methodNamed B.named B.method).1 hno rfl s.heap [] ls hO va_S.rf ⟨hl0, fun q hq => ?_⟩
  exact eq_of_beq (List.all_eq_true.mp hc q hq)
end ZB

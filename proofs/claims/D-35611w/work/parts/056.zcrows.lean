/-! ROWS over the component's store -/
set_option maxRecDepth 100000
section ZCR
variable {X : zX} {cc : ByteArray} {nL : Nat} {own : String} {ret : Option FieldType} {fr lo mc ms : Nat} {A : Nat → Prop} {G : zG} {uc us pc : Nat} {lv : List (Nat × Value)} {rest : List Value} {σ : zSt} {a idx ci N : Nat} {C ref host : String} {T : u_T}
theorem zcast_all : ∀ (ci : Nat) (r : vw_C), zCl[ci]? = some r → Cond.castable r.1 "java/lang/Object" ∈ lw_tbl := by
  intro ci r h
  have h2 := List.mem_of_getElem? h
  simp only [zCl, List.mem_cons, List.not_mem_nil, or_false] at h2
  rcases h2 with e | e | e | e | e | e | e | e | e | e | e | e | e | e | e | e | e | e <;> rw [e]
  · exact q2130
  · exact q2131
  · exact q2133
  · exact q2134
  · exact q2135
  · exact q2136
  · exact q2140
  · exact q2144
  · exact q2145
  · exact q2146
  · exact q2147
  · exact q2148
  · exact q2129
  · exact q2149
  · exact q2150
  · exact q2132
  · exact q2143
  · exact q2137
theorem zrv_ob (cx : Cx X cc nL own ret fr lo mc ms A G) {H : Heap} {V : Nat → Value} (hc : zCl[ci]? = some (C, T, N)) (h : t_OB a (G.1.1 ci) N (G.1.2 ci) H V) : ∃ cell : Cell, H[a]? = some cell ∧ cell.vm.isStatics = false ∧ (zS X).vm.findClass C = some cell.cls := by
  obtain ⟨cell, g1, g2, g3, -⟩ := h
  exact ⟨cell, g1, by rw [g3]; rfl, by rw [g2]; exact (cx.K.1 ci _ hc).2.1⟩
theorem zrv_C (cx : Cx X cc nL own ret fr lo mc ms A G) (h : zrc σ a ci) (hc : zCl[ci]? = some (C, T, N)) : zrv X A (WC G A σ) a C := fun H locs hO hS => by
  obtain ⟨fs, e⟩ := h
  obtain ⟨r, g1, g2, g3⟩ := hO.2.1 a ci fs e
  cases hc.symm.trans g1
  exact zrv_ob cx hc g3
theorem zrv_L (cx : Cx X cc nL own ret fr lo mc ms A G) (h : zrl σ a) : zrv X A (WC G A σ) a RJ2 := fun H locs hO hS => by
  obtain ⟨xs, e⟩ := h
  obtain ⟨bk, h3⟩ := hO.2.2.2.1
  obtain ⟨mcn, n, f, g1, -⟩ := h3 a xs e
  exact zrv_ob cx (ci := 15) (C := RJ2) (T := TJ2) (N := 3) rfl g1
theorem zrv_I (cx : Cx X cc nL own ret fr lo mc ms A G) (h : zri σ a) : zrv X A (WC G A σ) a RJ18 := fun H locs hO hS => by
  obtain ⟨k, hk, rfl⟩ := h
  rw [hO.1]
  obtain ⟨cell, h1, h2, h3, -⟩ := (cx.kw.2.2.1.1 k hk).kept hS.2.1
  exact ⟨cell, h1, h2, h3⟩
/-- an element may lie in an Object[] -/
theorem zany (cx : Cx X cc nL own ret fr lo mc ms A G) {y : Nat} (h : zel σ y) {H : Heap} {locs : List Loc} (hO : WC G A σ H) (hS : va_S A (zS X).heap H locs) : va_Any "java/lang/Object" (zS X) H y := by
  have key : ∀ C', Cond.castable C' "java/lang/Object" ∈ lw_tbl → (∃ cell : Cell, H[y]? = some cell ∧ cell.vm.isStatics = false ∧ (zS X).vm.findClass C' = some cell.cls) → va_Any "java/lang/Object" (zS X) H y := by
    rintro C' q ⟨cell, h1, h2, h3⟩
    obtain ⟨kC, hkC, -⟩ := Vm.findClass_spec h3
    exact ⟨cell, h1, h2, ⟨kC, hkC⟩, fun comp hcomp => vb_asgC (cx.nw q rfl) comp _ hcomp h3⟩
  rcases h with ⟨ci, fs, e, -⟩ | h
  · obtain ⟨r, g1, g2, g3⟩ := hO.2.1 y ci fs e
    exact key r.1 (zcast_all ci r g1) (zrv_ob cx (T := r.2.1) (N := r.2.2) g1 g3)
  · exact key RJ18 q2143 (zrv_I cx h H locs hO hS)
theorem zc_gf (cx : Cx X cc nL own ret fr lo mc ms A G) {K : Value → Prop} {k : Nat} (h : zgf σ a ci k K) (hc : zCl[ci]? = some (C, T, N)) (hin : ∀ w ∈ u_ws C T N, w ∈ lw_all) (hk : k < N)
    (q : Cond.fieldLink own idx ref (T k).2.1 (T k).2.2.1 ∈ lw_all) (hsame : ∀ x, (zS X).fieldFound? (T k).1 (T k).2.1 (T k).2.2.1 = some x → (zS X).fieldFound? ref (T k).2.1 (T k).2.2.1 = some x)
    (hdg : decode cc pc = .ok (.getfield idx, 3)) (kk : ∀ v, K v → Z X nL A (WC G A σ) uc us (pc + 3) lv (v :: rest)) : Z X nL A (WC G A σ) uc us pc lv (.ref a :: rest) := by
  obtain ⟨fs, v, e, e2, hK⟩ := zgf_of h
  refine zg_get cx hc hin (V := vp_V fs) (fun H hO => ?_) k hk q hsame (v := v) (by simp [vp_V, e2]) hdg (kk v hK)
  obtain ⟨r, g1, g2, g3⟩ := hO.2.1 a ci fs e
  cases hc.symm.trans g1
  exact g3
theorem zc_gfn (cx : Cx X cc nL own ret fr lo mc ms A G) {K : Value → Prop} {k : Nat} (h : zgf σ a ci k K) (hc : zCl[ci]? = some (C, T, N)) (hin : ∀ w ∈ u_ws C T N, w ∈ lw_all) (hk : k < N)
    (q : Cond.fieldLinkNest own idx ref (T k).2.1 (T k).2.2.1 host ∈ lw_tbl) (hsame : ∀ x, (zS X).fieldFound? (T k).1 (T k).2.1 (T k).2.2.1 = some x → (zS X).fieldFound? ref (T k).2.1 (T k).2.2.1 = some x)
    (hdg : decode cc pc = .ok (.getfield idx, 3)) (kk : ∀ v, K v → Z X nL A (WC G A σ) uc us (pc + 3) lv (v :: rest)) : Z X nL A (WC G A σ) uc us pc lv (.ref a :: rest) := by
  obtain ⟨fs, v, e, e2, hK⟩ := zgf_of h
  refine zg_getN cx hc hin (V := vp_V fs) (fun H hO => ?_) k hk q hsame (v := v) (by simp [vp_V, e2]) hdg (kk v hK)
  obtain ⟨r, g1, g2, g3⟩ := hO.2.1 a ci fs e
  cases hc.symm.trans g1
  exact g3
theorem zc_gI (cx : Cx X cc nL own ret fr lo mc ms A G) {K : Int32 → Prop} {k : Nat} (h : zgI σ a ci k K) (hc : zCl[ci]? = some (C, T, N)) (hin : ∀ w ∈ u_ws C T N, w ∈ lw_all) (hk : k < N)
    (q : Cond.fieldLink own idx ref (T k).2.1 (T k).2.2.1 ∈ lw_all) (hsame : ∀ x, (zS X).fieldFound? (T k).1 (T k).2.1 (T k).2.2.1 = some x → (zS X).fieldFound? ref (T k).2.1 (T k).2.2.1 = some x)
    (hdg : decode cc pc = .ok (.getfield idx, 3)) (kk : ∀ x, K x → Z X nL A (WC G A σ) uc us (pc + 3) lv (.int x :: rest)) : Z X nL A (WC G A σ) uc us pc lv (.ref a :: rest) :=
  zc_gf cx h hc hin hk q hsame hdg (fun v hv => by cases v <;> first | exact kk _ hv | exact hv.elim)
theorem zc_gR (cx : Cx X cc nL own ret fr lo mc ms A G) {K : Nat → Prop} {k : Nat} (h : zgR σ a ci k K) (hc : zCl[ci]? = some (C, T, N)) (hin : ∀ w ∈ u_ws C T N, w ∈ lw_all) (hk : k < N)
    (q : Cond.fieldLink own idx ref (T k).2.1 (T k).2.2.1 ∈ lw_all) (hsame : ∀ x, (zS X).fieldFound? (T k).1 (T k).2.1 (T k).2.2.1 = some x → (zS X).fieldFound? ref (T k).2.1 (T k).2.2.1 = some x)
    (hdg : decode cc pc = .ok (.getfield idx, 3)) (kk : ∀ x, K x → Z X nL A (WC G A σ) uc us (pc + 3) lv (.ref x :: rest)) : Z X nL A (WC G A σ) uc us pc lv (.ref a :: rest) :=
  zc_gf cx h hc hin hk q hsame hdg (fun v hv => by cases v <;> first | exact kk _ hv | exact hv.elim)
theorem zc_gIn (cx : Cx X cc nL own ret fr lo mc ms A G) {K : Int32 → Prop} {k : Nat} (h : zgI σ a ci k K) (hc : zCl[ci]? = some (C, T, N)) (hin : ∀ w ∈ u_ws C T N, w ∈ lw_all) (hk : k < N)
    (q : Cond.fieldLinkNest own idx ref (T k).2.1 (T k).2.2.1 host ∈ lw_tbl) (hsame : ∀ x, (zS X).fieldFound? (T k).1 (T k).2.1 (T k).2.2.1 = some x → (zS X).fieldFound? ref (T k).2.1 (T k).2.2.1 = some x)
    (hdg : decode cc pc = .ok (.getfield idx, 3)) (kk : ∀ x, K x → Z X nL A (WC G A σ) uc us (pc + 3) lv (.int x :: rest)) : Z X nL A (WC G A σ) uc us pc lv (.ref a :: rest) :=
  zc_gfn cx h hc hin hk q hsame hdg (fun v hv => by cases v <;> first | exact kk _ hv | exact hv.elim)
theorem zc_gRn (cx : Cx X cc nL own ret fr lo mc ms A G) {K : Nat → Prop} {k : Nat} (h : zgR σ a ci k K) (hc : zCl[ci]? = some (C, T, N)) (hin : ∀ w ∈ u_ws C T N, w ∈ lw_all) (hk : k < N)
    (q : Cond.fieldLinkNest own idx ref (T k).2.1 (T k).2.2.1 host ∈ lw_tbl) (hsame : ∀ x, (zS X).fieldFound? (T k).1 (T k).2.1 (T k).2.2.1 = some x → (zS X).fieldFound? ref (T k).2.1 (T k).2.2.1 = some x)
    (hdg : decode cc pc = .ok (.getfield idx, 3)) (kk : ∀ x, K x → Z X nL A (WC G A σ) uc us (pc + 3) lv (.ref x :: rest)) : Z X nL A (WC G A σ) uc us pc lv (.ref a :: rest) :=
  zc_gfn cx h hc hin hk q hsame hdg (fun v hv => by cases v <;> first | exact kk _ hv | exact hv.elim)
theorem zpf_up {fs : List Value} {k : Nat} {v : Value} (hc : zCl[ci]? = some (C, T, N)) (hk : k < N) (e : σ.2 a = some (zob ci fs)) : ∀ H H1 : Heap, WC G A σ H → t_OB a (G.1.1 ci) N (G.1.2 ci) H1 (updV (vp_V fs) k v) → H1.size = H.size → (∀ q : Nat, q ≠ a → H1[q]? = H[q]?) → WC G A (zup_ σ a (zob ci (fs.set k v))) H1 := by
  intro H H1 hO h1 h2 h3
  obtain ⟨r, g1, g2, g3⟩ := hO.2.1 a ci fs e
  cases hc.symm.trans g1
  refine hO.write e (by intro xs h; cases h) (by intro xs h; cases h) (fun ci2 fs2 e2 => by cases e2; exact ⟨_, rfl⟩) h3 (fun ci' fs' h => ?_) (fun _ _ h => by cases h) (fun _ _ h => by cases h)
  cases h
  exact ⟨_, hc, by rw [List.length_set]; exact g2, h1.to (fun j _ => vp_updV_set (by rw [g2]; exact hk) v j)⟩
theorem zc_p (cx : Cx X cc nL own ret fr lo mc ms A G) {K : zSt → Prop} {k : Nat} {v : Value} (h : zpf σ a ci k v K) (hc : zCl[ci]? = some (C, T, N)) (hin : ∀ w ∈ u_ws C T N, w ∈ lw_all) (ty0 : Nat → FieldType) (hty : ∀ k, k < N → parseFieldDescriptor (T k).2.2.1 = some (ty0 k)) (hnm : ∀ a, a < N → ∀ b, b < N → a ≠ b → (T a).2.1 ≠ (T b).2.1) (hk : k < N)
    (q : Cond.fieldLink own idx ref (T k).2.1 (T k).2.2.1 ∈ lw_all) (hsame : ∀ x, (zS X).fieldFound? (T k).1 (T k).2.1 (T k).2.2.1 = some x → (zS X).fieldFound? ref (T k).2.1 (T k).2.2.1 = some x) (hfin : (T k).2.2.2 = false)
    {ty : FieldType} (hd : parseFieldDescriptor (T k).2.2.1 = some ty) (hn : narrow ty v = v) (hfit : fits ty v = true)
    (hdg : decode cc pc = .ok (.putfield idx, 3)) (kk : ∀ σ', K σ' → Z X nL A (WC G A σ') uc us (pc + 3) lv rest) : Z X nL A (WC G A σ) uc us pc lv (v :: .ref a :: rest) := by
  obtain ⟨fs, e, hK⟩ := zpf_of h
  by_cases hA : A a
  · exact zg_put cx hc hin ty0 hty hnm (fun H hO => by obtain ⟨r, g1, g2, g3⟩ := hO.2.1 a ci fs e; cases hc.symm.trans g1; exact g3) hA k hk q hsame hfin hd hn hfit (zpf_up hc hk e) hdg (kk _ hK)
  · exact fun H locs ls hO => absurd (hO.2.2.2.2.1 a _ e) hA
theorem zc_pn (cx : Cx X cc nL own ret fr lo mc ms A G) {K : zSt → Prop} {k : Nat} {v : Value} (h : zpf σ a ci k v K) (hc : zCl[ci]? = some (C, T, N)) (hin : ∀ w ∈ u_ws C T N, w ∈ lw_all) (ty0 : Nat → FieldType) (hty : ∀ k, k < N → parseFieldDescriptor (T k).2.2.1 = some (ty0 k)) (hnm : ∀ a, a < N → ∀ b, b < N → a ≠ b → (T a).2.1 ≠ (T b).2.1) (hk : k < N)
    (q : Cond.fieldLinkNest own idx ref (T k).2.1 (T k).2.2.1 host ∈ lw_tbl) (hsame : ∀ x, (zS X).fieldFound? (T k).1 (T k).2.1 (T k).2.2.1 = some x → (zS X).fieldFound? ref (T k).2.1 (T k).2.2.1 = some x) (hfin : (T k).2.2.2 = false)
    {ty : FieldType} (hd : parseFieldDescriptor (T k).2.2.1 = some ty) (hn : narrow ty v = v) (hfit : fits ty v = true)
    (hdg : decode cc pc = .ok (.putfield idx, 3)) (kk : ∀ σ', K σ' → Z X nL A (WC G A σ') uc us (pc + 3) lv rest) : Z X nL A (WC G A σ) uc us pc lv (v :: .ref a :: rest) := by
  obtain ⟨fs, e, hK⟩ := zpf_of h
  by_cases hA : A a
  · exact zg_putN cx hc hin ty0 hty hnm (fun H hO => by obtain ⟨r, g1, g2, g3⟩ := hO.2.1 a ci fs e; cases hc.symm.trans g1; exact g3) hA k hk q hsame hfin hd hn hfit (zpf_up hc hk e) hdg (kk _ hK)
  · exact fun H locs ls hO => absurd (hO.2.2.2.2.1 a _ e) hA
theorem zc_pF (cx : Cx X cc nL own ret fr lo mc ms A G) (hmn : (zMe X).name = "<init>") {K : zSt → Prop} {k : Nat} {v : Value} (h : zpf σ a ci k v K) (hc : zCl[ci]? = some (C, T, N)) (hin : ∀ w ∈ u_ws C T N, w ∈ lw_all) (ty0 : Nat → FieldType) (hty : ∀ k, k < N → parseFieldDescriptor (T k).2.2.1 = some (ty0 k)) (hnm : ∀ a, a < N → ∀ b, b < N → a ≠ b → (T a).2.1 ≠ (T b).2.1) (hk : k < N)
    (q : Cond.fieldLink own idx ref (T k).2.1 (T k).2.2.1 ∈ lw_all) (hsame : ∀ x, (zS X).fieldFound? (T k).1 (T k).2.1 (T k).2.2.1 = some x → (zS X).fieldFound? ref (T k).2.1 (T k).2.2.1 = some x) (hfin : (T k).2.2.2 = true) (hdecl : (T k).1 = own)
    {ty : FieldType} (hd : parseFieldDescriptor (T k).2.2.1 = some ty) (hn : narrow ty v = v) (hfit : fits ty v = true)
    (hdg : decode cc pc = .ok (.putfield idx, 3)) (kk : ∀ σ', K σ' → Z X nL A (WC G A σ') uc us (pc + 3) lv rest) : Z X nL A (WC G A σ) uc us pc lv (v :: .ref a :: rest) := by
  obtain ⟨fs, e, hK⟩ := zpf_of h
  by_cases hA : A a
  · exact zg_putF cx hmn hc hin ty0 hty hnm (fun H hO => by obtain ⟨r, g1, g2, g3⟩ := hO.2.1 a ci fs e; cases hc.symm.trans g1; exact g3) hA k hk q hsame hfin hdecl hd hn hfit (zpf_up hc hk e) hdg (kk _ hK)
  · exact fun H locs ls hO => absurd (hO.2.2.2.2.1 a _ e) hA
theorem zc_iald (cx : Cx X cc nL own ret fr lo mc ms A G) {K : Int32 → Prop} {i : Int32} (h : zia σ a 0 i K) (hdg : decode cc pc = .ok (.iaload, 1)) (kk : ∀ x, K x → Z X nL A (WC G A σ) uc us (pc + 1) lv (.int x :: rest)) : Z X nL A (WC G A σ) uc us pc lv (.int i :: .ref a :: rest) := by
  obtain ⟨n, f, e, h1, h2⟩ := zia_of h
  exact zg_iald cx (fun H hO => hO.2.2.1 a _ _ e) h1 hdg (kk _ h2)
theorem zc_iast (cx : Cx X cc nL own ret fr lo mc ms A G) {K : zSt → Prop} {i x : Int32} (h : zis σ a 0 i x K) (hdg : decode cc pc = .ok (.iastore, 1)) (kk : ∀ σ', K σ' → Z X nL A (WC G A σ') uc us (pc + 1) lv rest) : Z X nL A (WC G A σ) uc us pc lv (.int x :: .int i :: .ref a :: rest) := by
  obtain ⟨n, f, e, h1, h2⟩ := zis_of h
  by_cases hA : A a
  · refine zg_iast cx (fun H hO => hO.2.2.1 a _ _ e) hA h1 (fun H H1 hO g1 g2 g3 => ?_) hdg (kk _ h2)
    exact hO.write e (by intro xs h; cases h) (by intro xs h; cases h) (fun _ _ h => by cases h) g3 (fun _ _ h => by cases h) (fun _ _ h => by cases h; exact g1) (fun _ _ h => by cases h)
  · exact fun H locs ls hO => absurd (hO.2.2.2.2.1 a _ e) hA
theorem zc_last (cx : Cx X cc nL own ret fr lo mc ms A G) {K : zSt → Prop} {i : Int32} {x : Int64} (h : zjs σ a i x K) (hdg : decode cc pc = .ok (.lastore, 1)) (kk : ∀ σ', K σ' → Z X nL A (WC G A σ') uc us (pc + 1) lv rest) : Z X nL A (WC G A σ) uc us pc lv (.long x :: .int i :: .ref a :: rest) := by
  obtain ⟨n, f, e, h1, h2⟩ := zjs_of h
  by_cases hA : A a
  · refine zg_last cx (fun H hO => hO.2.2.1 a _ _ e) hA h1 (fun H H1 hO g1 g2 g3 => ?_) hdg (kk _ h2)
    exact hO.write e (by intro xs h; cases h) (by intro xs h; cases h) (fun _ _ h => by cases h) g3 (fun _ _ h => by cases h) (fun _ _ h => by cases h; exact g1) (fun _ _ h => by cases h)
  · exact fun H locs ls hO => absurd (hO.2.2.2.2.1 a _ e) hA
theorem zc_aald (cx : Cx X cc nL own ret fr lo mc ms A G) {K : Option Nat → Prop} {kd : Nat} {i : Int32} {ty : FieldType} (h : zaa σ a kd i K) (hk : (zTy G)[kd]? = some (G.2.1 kd, ty)) (hty : ty.isReference = true) (hdg : decode cc pc = .ok (.aaload, 1)) (kk : ∀ r, K r → Z X nL A (WC G A σ) uc us (pc + 1) lv (va_rf r :: rest)) : Z X nL A (WC G A σ) uc us pc lv (.int i :: .ref a :: rest) := by
  obtain ⟨n, f, e, h1, h2⟩ := zaa_of h
  exact zg_aald cx hk hty (fun H hO => hO.2.2.1 a _ _ e) h1 hdg (kk _ h2)
theorem zc_aaR (cx : Cx X cc nL own ret fr lo mc ms A G) {K : Nat → Prop} {kd : Nat} {i : Int32} {ty : FieldType} (h : zaR σ a kd i K) (hk : (zTy G)[kd]? = some (G.2.1 kd, ty)) (hty : ty.isReference = true) (hdg : decode cc pc = .ok (.aaload, 1)) (kk : ∀ r, K r → Z X nL A (WC G A σ) uc us (pc + 1) lv (.ref r :: rest)) : Z X nL A (WC G A σ) uc us pc lv (.int i :: .ref a :: rest) :=
  zc_aald cx h hk hty hdg (fun r hr => by cases r with
    | none => exact hr.elim
    | some x => exact kk x hr)
theorem zc_alen (cx : Cx X cc nL own ret fr lo mc ms A G) {K : Int32 → Prop} (h : zln σ a K) (hdg : decode cc pc = .ok (.arraylength, 1)) (kk : ∀ x, K x → Z X nL A (WC G A σ) uc us (pc + 1) lv (.int x :: rest)) : Z X nL A (WC G A σ) uc us pc lv (.ref a :: rest) := by
  unfold zln at h
  split at h
  next d n y e =>
    intro H locs ls hO hS hl
    have hc := hO.2.2.1 a d _ e
    have hd := h.1
    have hk : ∃ ty, (zTy G)[d]? = some (G.2.1 d, ty) := by
      rcases (by omega : d = 0 ∨ d = 1 ∨ d = 2 ∨ d = 3 ∨ d = 4 ∨ d = 5) with e | e | e | e | e | e <;> subst e <;> exact ⟨_, rfl⟩
    obtain ⟨ty, hk⟩ := hk
    exact va_alen (ws := [(a, .inl (G.2.1 d, (n, y)))]) cx.exec cx.code cx.K (fun k q hq => by
      match k, hq with
      | 0, hq => cases hq; exact hc) 0 d rfl hk rfl hdg (kk _ h.2 H locs ls hO hS hl)
  next => exact h.elim
  next e =>
    obtain ⟨h1, h2⟩ := h
    intro H locs ls hO hS hl
    rw [hO.1] at h1
    rcases h1 with h1 | h1 <;> rw [h1]
    · exact va_tlen cx.exec cx.code cx.kw.2.2.2.2.2.2.2.1 hS (v := 0) rfl hdg (kk _ h2 H locs ls hO hS hl)
    · exact va_tlen cx.exec cx.code cx.kw.2.2.2.2.2.2.2.2.1 hS (v := 0) rfl hdg (kk _ h2 H locs ls hO hS hl)
theorem zc_new (cx : Cx X cc nL own ret fr lo mc ms A G) {K : Nat → zSt → Prop} {fs : List Value} (h : znew σ ci fs K) (hc : zCl[ci]? = some (C, T, N)) (hin : ∀ w ∈ u_ws C T N, w ∈ lw_all) (ty0 : Nat → FieldType) (hty : ∀ k, k < N → parseFieldDescriptor (T k).2.2.1 = some (ty0 k))
    (q1 : Cond.classLink own idx C ∈ lw_all) (q2 : Cond.instantiable C N ∈ lw_all) (q3 : Cond.initialized C ∈ lw_all) (hfl : fs.length = N) (hfs : ∀ j, j < N → defaultValue (ty0 j) = vp_V fs j) (hu : uc + 1 ≤ mc) (hus : us + N ≤ ms)
    (hdg : decode cc pc = .ok (.new idx, 3)) (kk : ∀ q σ', K q σ' → Z X nL A (WC G A σ') (uc + 1) (us + N) (pc + 3) lv (.ref q :: rest)) : Z X nL A (WC G A σ) uc us pc lv rest := by
  refine zg_new (Om3 := fun q H => σ.2 q = none ∧ WC G A (zup_ σ q (zob ci fs)) H) cx hc hin ty0 hty q1 q2 q3 hu hus (fun H H1 hO hA h1 h2 h3 => ⟨hO.fresh, ?_⟩) hdg (fun q H locs ls hO hS hl => kk q _ (h q hO.1) H locs ls hO.2 hS hl)
  exact hO.new hA (by intro xs h; cases h) h2 h3 (fun ci' fs' e => by cases e; exact ⟨_, hc, hfl, h1.to hfs⟩) (fun _ _ e => by cases e) (fun _ _ e => by cases e)
theorem zc_newa0 (cx : Cx X cc nL own ret fr lo mc ms A G) {K : Nat → zSt → Prop} {N0 : Nat} {n : Int32} (h : znwa σ 0 N0 K) (hn : ¬ n < 0) (hN : n.toNatClampNeg = N0) (hu : uc + 1 ≤ mc) (hus : us + N0 ≤ ms) (hb : N0 * 4 ≤ 536870912)
    (hdg : decode cc pc = .ok (.newarray .int, 2)) (kk : ∀ q σ', K q σ' → Z X nL A (WC G A σ') (uc + 1) (us + N0) (pc + 2) lv (.ref q :: rest)) : Z X nL A (WC G A σ) uc us pc lv (.int n :: rest) := by
  refine zg_newa (Om3 := fun q H => σ.2 q = none ∧ WC G A (zup_ σ q (zia_ 0 N0 (fun _ => 0))) H) (a0 := (N0, .inl fun _ => 0)) (atype := .int) (kd := 0) cx rfl q187 (fun U c1 c2 g1 g2 => Option.some.inj (g2.symm.trans g1)) (fun cA => rfl) hn hN hb hu hus (fun H H1 hO hA h1 h2 h3 => ⟨hO.fresh, ?_⟩) hdg (fun q H locs ls hO hS hl => kk q _ (h q hO.1) H locs ls hO.2 hS hl)
  exact hO.new hA (by intro xs h; cases h) h2 h3 (fun _ _ e => by cases e) (fun _ _ e => by cases e; exact h1) (fun _ _ e => by cases e)
theorem zc_newa5 (cx : Cx X cc nL own ret fr lo mc ms A G) {K : Nat → zSt → Prop} {N0 : Nat} {n : Int32} (h : znwa σ 5 N0 K) (hn : ¬ n < 0) (hN : n.toNatClampNeg = N0) (hu : uc + 1 ≤ mc) (hus : us + N0 ≤ ms) (hb : N0 * 8 ≤ 536870912)
    (hdg : decode cc pc = .ok (.newarray .long, 2)) (kk : ∀ q σ', K q σ' → Z X nL A (WC G A σ') (uc + 1) (us + N0) (pc + 2) lv (.ref q :: rest)) : Z X nL A (WC G A σ) uc us pc lv (.int n :: rest) := by
  refine zg_newa (Om3 := fun q H => σ.2 q = none ∧ WC G A (zup_ σ q (zja_ N0 (fun _ => 0))) H) (a0 := (N0, .inr (.inl fun _ => 0))) (atype := .long) (kd := 5) cx rfl q2125 (fun U c1 c2 g1 g2 => Option.some.inj (g2.symm.trans g1)) (fun cA => rfl) hn hN hb hu hus (fun H H1 hO hA h1 h2 h3 => ⟨hO.fresh, ?_⟩) hdg (fun q H locs ls hO hS hl => kk q _ (h q hO.1) H locs ls hO.2 hS hl)
  exact hO.new hA (by intro xs h; cases h) h2 h3 (fun _ _ e => by cases e) (fun _ _ e => by cases e; exact h1) (fun _ _ e => by cases e)
theorem zc_newr (cx : Cx X cc nL own ret fr lo mc ms A G) {K : Nat → zSt → Prop} {kd N0 : Nat} {n : Int32} (h : znwr σ kd n N0 K) (hk : (zTy G)[kd]? = some (G.2.1 kd, .object C)) (q : Cond.classLink own idx C ∈ lw_all) (hAO : va_AO C (zS X)) (hu : uc + 1 ≤ mc) (hus : us + N0 ≤ ms) (hb : N0 * 4 ≤ 536870912)
    (hdg : decode cc pc = .ok (.anewarray idx, 3)) (kk : ∀ q σ', K q σ' → Z X nL A (WC G A σ') (uc + 1) (us + N0) (pc + 3) lv (.ref q :: rest)) : Z X nL A (WC G A σ) uc us pc lv (.int n :: rest) := by
  obtain ⟨n', rfl, hle, h⟩ := h
  have hlt : n' < 2 ^ 31 := by omega
  refine zg_anew (Om3 := fun q H => σ.2 q = none ∧ q ≠ σ.1 256 ∧ q ≠ σ.1 257 ∧ WC G A (zup_ σ q (zra_ kd n' (fun _ => none))) H) cx hk q hAO (nI_pos hlt) (nI_clamp hlt) (by omega) hu (by omega) (fun H H1 hO hA h1 h2 h3 => ⟨hO.fresh, fun e => ?_, fun e => ?_, ?_⟩) hdg (fun q H locs ls hO hS hl => W.widen (Nat.le_refl _) (by omega) (kk q _ (h q hO.1 hO.2.1 hO.2.2.1) H locs ls hO.2.2.2 hS hl))
  · rw [e, hO.1] at hA; exact cx.kw.2.2.2.2.2.2.2.1.choose_spec.2.2.2.2.2.2 hA
  · rw [e, hO.1] at hA; exact cx.kw.2.2.2.2.2.2.2.2.1.choose_spec.2.2.2.2.2.2 hA
  · exact hO.new hA (by intro xs h; cases h) h2 h3 (fun _ _ e => by cases e) (fun _ _ e => by cases e; exact h1) (fun _ _ e => by cases e; intro i hi y hy; cases hy)
theorem zc_newr1 (cx : Cx X cc nL own ret fr lo mc ms A G) {K : Nat → zSt → Prop} {N0 : Nat} {n : Int32} (h : znwr σ 1 n N0 K) (q : Cond.classLink own idx "java/lang/Object" ∈ lw_all) (hu : uc + 1 ≤ mc) (hus : us + N0 ≤ ms) (hb : N0 * 4 ≤ 536870912)
    (hdg : decode cc pc = .ok (.anewarray idx, 3)) (kk : ∀ q σ', K q σ' → Z X nL A (WC G A σ') (uc + 1) (us + N0) (pc + 3) lv (.ref q :: rest)) : Z X nL A (WC G A σ) uc us pc lv (.int n :: rest) := zc_newr cx h rfl q cx.kw.2.2.2.2.2.2.2.2.2.2.2.2.2.2.2.1 hu hus hb hdg kk
theorem zc_newr2 (cx : Cx X cc nL own ret fr lo mc ms A G) {K : Nat → zSt → Prop} {N0 : Nat} {n : Int32} (h : znwr σ 2 n N0 K) (q : Cond.classLink own idx "CrateDeck$Forward" ∈ lw_all) (hu : uc + 1 ≤ mc) (hus : us + N0 ≤ ms) (hb : N0 * 4 ≤ 536870912)
    (hdg : decode cc pc = .ok (.anewarray idx, 3)) (kk : ∀ q σ', K q σ' → Z X nL A (WC G A σ') (uc + 1) (us + N0) (pc + 3) lv (.ref q :: rest)) : Z X nL A (WC G A σ) uc us pc lv (.int n :: rest) := zc_newr cx h rfl q cx.kw.2.2.2.2.2.2.2.2.2.2.2.2.2.2.2.2.1 hu hus hb hdg kk
theorem zc_aastN {Om2 : Heap → Prop} (cx : Cx X cc nL own ret fr lo mc ms A G) {Om : Heap → Prop} {n kd : Nat} {f : Nat → Option Nat} {i : Int32} {E : String} (hk : (zTy G)[kd]? = some (G.2.1 kd, .object E)) (ha : ∀ H, Om H → H[a]? = some (vp_cell (G.2.1 kd) (n, .inr (.inr (.inr (.inr f)))))) (hA : A a) (hin : vp_in i n)
    (hup : ∀ H H1 : Heap, Om H → H1[a]? = some (vp_cell (G.2.1 kd) (n, .inr (.inr (.inr (.inr (va_up f i.toNatClampNeg none)))))) → H1.size = H.size → (∀ q : Nat, q ≠ a → H1[q]? = H[q]?) → Om2 H1)
    (hdg : decode cc pc = .ok (.aastore, 1)) (kk : Z X nL A Om2 uc us (pc + 1) lv rest) : Z X nL A Om uc us pc lv (.null :: .int i :: .ref a :: rest) := by
  intro H locs ls hO hS hl
  refine va_WaastN (C := E) cx.exec cx.code (ha H hO) ((cx.K.2 kd _ hk).1 n (fun j => va_rf (f j))) (fun h => by cases h) (by show ¬ (i < 0 ∨ (arrV _ _ _).slots.size ≤ _); rw [arrV_size]; exact hin) rfl rfl hdg fun H1 e z oq => ?_
  refine kk H1 _ ls (hup H H1 hO ?_ z oq) (hS.put z oq hA) hl
  rw [e]
  rw [vp_cell_q, vp_cell_q, arrV_store]
  congr 2
  funext q
  by_cases hq : q = i.toNatClampNeg
  · subst hq
    simp [updV, va_up, va_rf]
  · simp [updV, va_up, hq]
theorem zas_up {kd n : Nat} {f : Nat → Option Nat} {i : Int32} {r : Option Nat} (e : σ.2 a = some (zra_ kd n f)) (hs : zsl σ kd r) : ∀ H H1 : Heap, WC G A σ H → H1[a]? = some (vp_cell (G.2.1 kd) (n, .inr (.inr (.inr (.inr (va_up f i.toNatClampNeg r)))))) → H1.size = H.size → (∀ q : Nat, q ≠ a → H1[q]? = H[q]?) → WC G A (zup_ σ a (zra_ kd n (va_up f i.toNatClampNeg r))) H1 := by
  intro H H1 hO g1 g2 g3
  refine hO.write e (by intro xs h; cases h) (by intro xs h; cases h) (fun _ _ h => by cases h) g3 (fun _ _ h => by cases h) (fun _ _ h => by cases h; exact g1) (fun n' f' h => ?_)
  cases h
  intro j hj y hy
  unfold va_up at hy
  split at hy
  · rcases hs y hy with ⟨-, h⟩ | ⟨h, -⟩
    · exact h
    · cases h
  · exact hO.2.2.2.2.2.2 a n f e j hj y hy
theorem zc_aast1 (cx : Cx X cc nL own ret fr lo mc ms A G) {K : zSt → Prop} {i : Int32} {r : Option Nat} (h : zas σ a 1 i r K) (hdg : decode cc pc = .ok (.aastore, 1)) (kk : ∀ σ', K σ' → Z X nL A (WC G A σ') uc us (pc + 1) lv rest) : Z X nL A (WC G A σ) uc us pc lv (va_rf r :: .int i :: .ref a :: rest) := by
  obtain ⟨n, f, e, h1, h2, h3⟩ := zas_of h
  by_cases hA : A a
  · cases r with
    | none => exact zc_aastN cx (kd := 1) rfl (fun H hO => hO.2.2.1 a _ _ e) hA h1 (zas_up e h2) hdg (kk _ h3)
    | some y =>
      refine zg_aast cx (kd := 1) rfl (fun H hO => hO.2.2.1 a _ _ e) hA h1 (fun H locs hO hS => ?_) (zas_up e h2) hdg (kk _ h3)
      rcases h2 y rfl with ⟨-, h⟩ | ⟨h, -⟩
      · exact zany cx h hO hS
      · cases h
  · exact fun H locs ls hO => absurd (hO.2.2.2.2.1 a _ e) hA
theorem zc_aast2 (cx : Cx X cc nL own ret fr lo mc ms A G) {K : zSt → Prop} {i : Int32} {r : Option Nat} (h : zas σ a 2 i r K) (hdg : decode cc pc = .ok (.aastore, 1)) (kk : ∀ σ', K σ' → Z X nL A (WC G A σ') uc us (pc + 1) lv rest) : Z X nL A (WC G A σ) uc us pc lv (va_rf r :: .int i :: .ref a :: rest) := by
  obtain ⟨n, f, e, h1, h2, h3⟩ := zas_of h
  by_cases hA : A a
  · cases r with
    | none => exact zc_aastN cx (kd := 2) rfl (fun H hO => hO.2.2.1 a _ _ e) hA h1 (zas_up e h2) hdg (kk _ h3)
    | some y =>
      refine zg_aast cx (kd := 2) rfl (fun H hO => hO.2.2.1 a _ _ e) hA h1 (fun H locs hO hS => ?_) (zas_up e h2) hdg (kk _ h3)
      rcases h2 y rfl with ⟨h, -⟩ | ⟨-, h⟩
      · cases h
      · obtain ⟨cell, g1, g2, g3⟩ := zrv_C (T := TX14) (N := 2) (C := RX14) cx h rfl H locs hO hS
        obtain ⟨kC, hkC, -⟩ := Vm.findClass_spec g3
        exact ⟨cell, g1, g2, ⟨kC, hkC⟩, fun comp hcomp => vb_asgS comp _ hcomp g3⟩
  · exact fun H locs ls hO => absurd (hO.2.2.2.2.1 a _ e) hA
/-- a cast to the object's own class -/
theorem zc_cast (cx : Cx X cc nL own ret fr lo mc ms A G) (h : zrc σ a ci) (hc : zCl[ci]? = some (C, T, N)) (q : Cond.classLink own idx C ∈ lw_all) (hdg : decode cc pc = .ok (.checkcast idx, 3)) (kk : Z X nL A (WC G A σ) uc us (pc + 3) lv (.ref a :: rest)) : Z X nL A (WC G A σ) uc us pc lv (.ref a :: rest) := by
  intro H locs ls hO hS hl
  exact va_castS cx.exec cx.code cx.ow (cx.ts _ q) (cx.K.1 ci _ hc).2 (zrv_C cx h hc H locs hO hS) hdg (kk H locs ls hO hS hl)
theorem zc_castI (cx : Cx X cc nL own ret fr lo mc ms A G) (h : zri σ a) (q : Cond.classLink own idx "java/lang/Integer" ∈ lw_all) (hdg : decode cc pc = .ok (.checkcast idx, 3)) (kk : Z X nL A (WC G A σ) uc us (pc + 3) lv (.ref a :: rest)) : Z X nL A (WC G A σ) uc us pc lv (.ref a :: rest) := by
  intro H locs ls hO hS hl
  exact va_castS cx.exec cx.code cx.ow (cx.ts _ q) (cx.K.1 16 (RJ18, TJ18, 1) rfl).2 (zrv_I cx h H locs hO hS) hdg (kk H locs ls hO hS hl)
theorem zc_st256 (cx : Cx X cc nL own ret fr lo mc ms A G) (q : Cond.fieldLink own idx "java/util/ArrayList" "DEFAULTCAPACITY_EMPTY_ELEMENTDATA" "[Ljava/lang/Object;" ∈ lw_all) (hdg : decode cc pc = .ok (.getstatic idx, 3)) (kk : Z X nL A (WC G A σ) uc us (pc + 3) lv (.ref (σ.1 256) :: rest)) : Z X nL A (WC G A σ) uc us pc lv rest := by
  intro H locs ls hO hS hl
  have k := kk H locs ls hO hS hl
  rw [hO.1] at k
  exact va_gets cx.exec cx.code cx.kw.2.2.2.2.2.1 hS cx.ow (cx.ts _ q) (fun _ e => e) hdg k
theorem zc_st257 (cx : Cx X cc nL own ret fr lo mc ms A G) (q : Cond.fieldLink own idx "java/util/ArrayList" "EMPTY_ELEMENTDATA" "[Ljava/lang/Object;" ∈ lw_all) (hdg : decode cc pc = .ok (.getstatic idx, 3)) (kk : Z X nL A (WC G A σ) uc us (pc + 3) lv (.ref (σ.1 257) :: rest)) : Z X nL A (WC G A σ) uc us pc lv rest := by
  intro H locs ls hO hS hl
  have k := kk H locs ls hO hS hl
  rw [hO.1] at k
  exact va_gets cx.exec cx.code cx.kw.2.2.2.2.2.2.1 hS cx.ow (cx.ts _ q) (fun _ e => e) hdg k
theorem zc_st260 (cx : Cx X cc nL own ret fr lo mc ms A G) (q : Cond.fieldLink own idx "java/lang/Integer$IntegerCache" "cache" "[Ljava/lang/Integer;" ∈ lw_all) (hdg : decode cc pc = .ok (.getstatic idx, 3)) (kk : Z X nL A (WC G A σ) uc us (pc + 3) lv (.ref (σ.1 260) :: rest)) : Z X nL A (WC G A σ) uc us pc lv rest := by
  intro H locs ls hO hS hl
  have k := kk H locs ls hO hS hl
  rw [hO.1] at k
  exact va_gets cx.exec cx.code cx.kw.2.2.2.2.2.2.2.2.2.2.2.1 hS cx.ow (cx.ts _ q) (fun _ e => e) hdg k
theorem zc_high (cx : Cx X cc nL own ret fr lo mc ms A G) (q : Cond.fieldLink own idx "java/lang/Integer$IntegerCache" "high" "I" ∈ lw_all) (hdg : decode cc pc = .ok (.getstatic idx, 3)) (kk : Z X nL A (WC G A σ) uc us (pc + 3) lv (.int 127 :: rest)) : Z X nL A (WC G A σ) uc us pc lv rest := by
  intro H locs ls hO hS hl
  exact va_gets cx.exec cx.code cx.kw.2.2.2.2.2.2.2.2.2.2.1 hS cx.ow (cx.ts _ q) (fun _ e => e) hdg (kk H locs ls hO hS hl)
/-- the small Integers' array -/
theorem zc_cache (cx : Cx X cc nL own ret fr lo mc ms A G) {K : Nat → Prop} {i : Int32} (h : ∃ k, k < 256 ∧ i = nI k ∧ K (σ.1 k)) (hdg : decode cc pc = .ok (.aaload, 1)) (kk : ∀ r, K r → Z X nL A (WC G A σ) uc us (pc + 1) lv (.ref r :: rest)) : Z X nL A (WC G A σ) uc us pc lv (.int i :: .ref (σ.1 260) :: rest) := by
  obtain ⟨k, hk, rfl, hK⟩ := h
  intro H locs ls hO hS hl
  have k2 := kk _ hK H locs ls hO hS hl
  rw [hO.1] at k2 ⊢
  exact vb_tq cx.exec cx.code cx.kw.2.2.2.2.2.2.2.2.2.2.2.2.1 hS (vp_in_nI hk (by decide)) (by rw [nI_clamp (by omega)]) hdg k2
theorem zc_ldcM258 (cx : Cx X cc nL own ret fr lo mc ms A G) (q : Cond.classLink own idx "java/util/ArrayList" ∈ lw_all) (hdg : decode cc pc = .ok (.ldc idx, 2)) (kk : Z X nL A (WC G A σ) uc us (pc + 2) lv (.ref (σ.1 258) :: rest)) : Z X nL A (WC G A σ) uc us pc lv rest := by
  intro H locs ls hO hS hl
  have k2 := kk H locs ls hO hS hl
  rw [hO.1] at k2
  exact va_ldcM cx.exec cx.code cx.ow (cx.ts _ q) cx.kw.2.2.2.2.2.2.2.2.2.2.2.2.2.1 hdg k2
theorem zc_ldcM259 (cx : Cx X cc nL own ret fr lo mc ms A G) (q : Cond.classLink own idx "[Ljava/lang/Object;" ∈ lw_all) (hdg : decode cc pc = .ok (.ldc idx, 2)) (kk : Z X nL A (WC G A σ) uc us (pc + 2) lv (.ref (σ.1 259) :: rest)) : Z X nL A (WC G A σ) uc us pc lv rest := by
  intro H locs ls hO hS hl
  have k2 := kk H locs ls hO hS hl
  rw [hO.1] at k2
  exact va_ldcM cx.exec cx.code cx.ow (cx.ts _ q) cx.kw.2.2.2.2.2.2.2.2.2.2.2.2.2.2.1 hdg k2
/-- Integer.value -/
theorem zc_gV (cx : Cx X cc nL own ret fr lo mc ms A G) {K : Int32 → Prop} (h : ∃ k, k < 256 ∧ a = σ.1 k ∧ K (vb_c k)) (q : Cond.fieldLink own idx "java/lang/Integer" "value" "I" ∈ lw_all) (hdg : decode cc pc = .ok (.getfield idx, 3)) (kk : ∀ x, K x → Z X nL A (WC G A σ) uc us (pc + 3) lv (.int x :: rest)) : Z X nL A (WC G A σ) uc us pc lv (.ref a :: rest) := by
  obtain ⟨k, hk, rfl, hK⟩ := h
  intro H locs ls hO hS hl
  rw [hO.1]
  exact vb_get (X := []) (LP := []) (pv := fun _ => 0) (ci := 16) (T := TJ18) cx.exec cx.code cx.ts in_J18 cx.ow cx.kw.2.2.1 hS cx.K (fun k q hq => by simp [va_pl] at hq) rfl ⟨rfl, rfl, rfl⟩ (Or.inr ⟨k, hk, rfl, rfl⟩) (cx.ts _ q) (fun _ e => e) hdg (kk _ hK H locs ls hO hS hl)
end ZCR

/-! HEAP ROWS of the layer, over any world: what the world must say of the cell, and what it is behind a write. -/
set_option maxRecDepth 100000
section ZH
variable {X : zX} {cc : ByteArray} {nL : Nat} {own : String} {ret : Option FieldType} {fr lo mc ms : Nat} {A : Nat → Prop} {G : zG} {Om Om2 : Heap → Prop} {uc us pc : Nat} {lv : List (Nat × Value)} {rest : List Value} {a : Nat}
variable {C ref host : String} {T : u_T} {N ci idx : Nat} {V : Nat → Value}
theorem zg_get (cx : Cx X cc nL own ret fr lo mc ms A G) (hc : zCl[ci]? = some (C, T, N)) (hin : ∀ w ∈ u_ws C T N, w ∈ lw_all) (hO : ∀ H, Om H → t_OB a (G.1.1 ci) N (G.1.2 ci) H V) (k : Nat) (hk : k < N)
    (q : Cond.fieldLink own idx ref (T k).2.1 (T k).2.2.1 ∈ lw_all) (hsame : ∀ x, (zS X).fieldFound? (T k).1 (T k).2.1 (T k).2.2.1 = some x → (zS X).fieldFound? ref (T k).2.1 (T k).2.2.1 = some x) {v : Value} (hv : V k = v)
    (hdg : decode cc pc = .ok (.getfield idx, 3)) (kk : Z X nL A Om uc us (pc + 3) lv (v :: rest)) : Z X nL A Om uc us pc lv (.ref a :: rest) := by
  intro H locs ls hH hS hl
  obtain ⟨cell, q1, q2, q3, q4⟩ := hO H hH
  obtain ⟨hSl, hfc, kC, hkC, hkind⟩ := cx.K.1 ci _ hc
  obtain ⟨cf, kf, fi, f, hi, hsl⟩ := hSl k hk
  exact W.getf cx.exec cx.code cx.ow (cx.ts _ q) (hsame _ hi) (u_facts hfc hkC (u_lays cx.ts hin hk) hi).1 q1 (by rw [q3]; exact fun h => by cases h) (v := v) (by rw [hsl, q4 k hk, hv]) rfl rfl hdg (kk H locs ls hH hS hl)
theorem zg_getN (cx : Cx X cc nL own ret fr lo mc ms A G) (hc : zCl[ci]? = some (C, T, N)) (hin : ∀ w ∈ u_ws C T N, w ∈ lw_all) (hO : ∀ H, Om H → t_OB a (G.1.1 ci) N (G.1.2 ci) H V) (k : Nat) (hk : k < N)
    (q : Cond.fieldLinkNest own idx ref (T k).2.1 (T k).2.2.1 host ∈ lw_tbl) (hsame : ∀ x, (zS X).fieldFound? (T k).1 (T k).2.1 (T k).2.2.1 = some x → (zS X).fieldFound? ref (T k).2.1 (T k).2.2.1 = some x) {v : Value} (hv : V k = v)
    (hdg : decode cc pc = .ok (.getfield idx, 3)) (kk : Z X nL A Om uc us (pc + 3) lv (v :: rest)) : Z X nL A Om uc us pc lv (.ref a :: rest) := by
  intro H locs ls hH hS hl
  obtain ⟨cell, q1, q2, q3, q4⟩ := hO H hH
  obtain ⟨hSl, hfc, kC, hkC, hkind⟩ := cx.K.1 ci _ hc
  obtain ⟨cf, kf, fi, f, hi, hsl⟩ := hSl k hk
  exact va_Wgetf cx.exec cx.code cx.ow (va_Nw.use rfl (cx.nw q rfl)) (hsame _ hi) (u_facts hfc hkC (u_lays cx.ts hin hk) hi).1 q1 (by rw [q3]; exact fun h => by cases h) (v := v) (by rw [hsl, q4 k hk, hv]) rfl rfl hdg (kk H locs ls hH hS hl)
theorem zg_put (cx : Cx X cc nL own ret fr lo mc ms A G) (hc : zCl[ci]? = some (C, T, N)) (hin : ∀ w ∈ u_ws C T N, w ∈ lw_all) (ty0 : Nat → FieldType) (hty : ∀ k, k < N → parseFieldDescriptor (T k).2.2.1 = some (ty0 k)) (hnm : ∀ a, a < N → ∀ b, b < N → a ≠ b → (T a).2.1 ≠ (T b).2.1)
    (hO : ∀ H, Om H → t_OB a (G.1.1 ci) N (G.1.2 ci) H V) (hA : A a) (k : Nat) (hk : k < N)
    (q : Cond.fieldLink own idx ref (T k).2.1 (T k).2.2.1 ∈ lw_all) (hsame : ∀ x, (zS X).fieldFound? (T k).1 (T k).2.1 (T k).2.2.1 = some x → (zS X).fieldFound? ref (T k).2.1 (T k).2.2.1 = some x) (hfin : (T k).2.2.2 = false)
    {ty : FieldType} {v : Value} (hd : parseFieldDescriptor (T k).2.2.1 = some ty) (hn : narrow ty v = v) (hfit : fits ty v = true)
    (hup : ∀ H H1 : Heap, Om H → t_OB a (G.1.1 ci) N (G.1.2 ci) H1 (updV V k v) → H1.size = H.size → (∀ q : Nat, q ≠ a → H1[q]? = H[q]?) → Om2 H1)
    (hdg : decode cc pc = .ok (.putfield idx, 3)) (kk : Z X nL A Om2 uc us (pc + 3) lv rest) : Z X nL A Om uc us pc lv (v :: .ref a :: rest) := by
  intro H locs ls hH hS hl
  have hap := va_apart (own := own) cx.ts hin ty0 hty hnm cx.K hc
  obtain ⟨cell, q1, q2, q3, q4⟩ := hO H hH
  obtain ⟨hSl, hfc, kC, hkC, hkind⟩ := cx.K.1 ci _ hc
  obtain ⟨cf, kf, fi, f, hi, hsl⟩ := hSl k hk
  have hlay := cx.ts _ (hin _ (u_in_lay hk))
  unfold u_lay at hlay
  rw [if_neg (by rw [hfin]; decide)] at hlay
  have hst := (u_facts hfc hkC (u_lays cx.ts hin hk) hi).1
  have h6 := u_store hfc hkC hkind hlay hi hd hn hfit
  refine W.putK cx.exec cx.code (f := f) ⟨cx.ow, cx.ts _ q, ⟨_, _, _, hsame _ hi⟩, hst⟩ (by rw [q2]; exact h6) q1 q3 (by rw [hsl]; exact k2_hasslot (q4 k hk)) rfl rfl hdg fun H' e1 e2 e3 => ?_
  rw [hsl] at e1 ⊢
  exact kk H' _ ls (hup H H' hH ⟨_, e1, q2, q3, t_set q4 hap hk v⟩ e2 e3) (hS.put e2 e3 hA) hl
theorem zg_putN (cx : Cx X cc nL own ret fr lo mc ms A G) (hc : zCl[ci]? = some (C, T, N)) (hin : ∀ w ∈ u_ws C T N, w ∈ lw_all) (ty0 : Nat → FieldType) (hty : ∀ k, k < N → parseFieldDescriptor (T k).2.2.1 = some (ty0 k)) (hnm : ∀ a, a < N → ∀ b, b < N → a ≠ b → (T a).2.1 ≠ (T b).2.1)
    (hO : ∀ H, Om H → t_OB a (G.1.1 ci) N (G.1.2 ci) H V) (hA : A a) (k : Nat) (hk : k < N)
    (q : Cond.fieldLinkNest own idx ref (T k).2.1 (T k).2.2.1 host ∈ lw_tbl) (hsame : ∀ x, (zS X).fieldFound? (T k).1 (T k).2.1 (T k).2.2.1 = some x → (zS X).fieldFound? ref (T k).2.1 (T k).2.2.1 = some x) (hfin : (T k).2.2.2 = false)
    {ty : FieldType} {v : Value} (hd : parseFieldDescriptor (T k).2.2.1 = some ty) (hn : narrow ty v = v) (hfit : fits ty v = true)
    (hup : ∀ H H1 : Heap, Om H → t_OB a (G.1.1 ci) N (G.1.2 ci) H1 (updV V k v) → H1.size = H.size → (∀ q : Nat, q ≠ a → H1[q]? = H[q]?) → Om2 H1)
    (hdg : decode cc pc = .ok (.putfield idx, 3)) (kk : Z X nL A Om2 uc us (pc + 3) lv rest) : Z X nL A Om uc us pc lv (v :: .ref a :: rest) := by
  intro H locs ls hH hS hl
  have hap := va_apart (own := own) cx.ts hin ty0 hty hnm cx.K hc
  obtain ⟨cell, q1, q2, q3, q4⟩ := hO H hH
  obtain ⟨hSl, hfc, kC, hkC, hkind⟩ := cx.K.1 ci _ hc
  obtain ⟨cf, kf, fi, f, hi, hsl⟩ := hSl k hk
  have hlay := cx.ts _ (hin _ (u_in_lay hk))
  unfold u_lay at hlay
  rw [if_neg (by rw [hfin]; decide)] at hlay
  have hst := (u_facts hfc hkC (u_lays cx.ts hin hk) hi).1
  have h6 := u_store hfc hkC hkind hlay hi hd hn hfit
  refine va_WputK cx.exec cx.code (f := f) cx.ow (va_Nw.use rfl (cx.nw q rfl)) (hsame _ hi) hst (by rw [q2]; exact h6) q1 q3 (by rw [hsl]; exact k2_hasslot (q4 k hk)) rfl rfl hdg fun H' e1 e2 e3 => ?_
  rw [hsl] at e1 ⊢
  exact kk H' _ ls (hup H H' hH ⟨_, e1, q2, q3, t_set q4 hap hk v⟩ e2 e3) (hS.put e2 e3 hA) hl
theorem zg_putF (cx : Cx X cc nL own ret fr lo mc ms A G) (hmn : (zMe X).name = "<init>") (hc : zCl[ci]? = some (C, T, N)) (hin : ∀ w ∈ u_ws C T N, w ∈ lw_all) (ty0 : Nat → FieldType) (hty : ∀ k, k < N → parseFieldDescriptor (T k).2.2.1 = some (ty0 k)) (hnm : ∀ a, a < N → ∀ b, b < N → a ≠ b → (T a).2.1 ≠ (T b).2.1)
    (hO : ∀ H, Om H → t_OB a (G.1.1 ci) N (G.1.2 ci) H V) (hA : A a) (k : Nat) (hk : k < N)
    (q : Cond.fieldLink own idx ref (T k).2.1 (T k).2.2.1 ∈ lw_all) (hsame : ∀ x, (zS X).fieldFound? (T k).1 (T k).2.1 (T k).2.2.1 = some x → (zS X).fieldFound? ref (T k).2.1 (T k).2.2.1 = some x) (hfin : (T k).2.2.2 = true) (hdecl : (T k).1 = own)
    {ty : FieldType} {v : Value} (hd : parseFieldDescriptor (T k).2.2.1 = some ty) (hn : narrow ty v = v) (hfit : fits ty v = true)
    (hup : ∀ H H1 : Heap, Om H → t_OB a (G.1.1 ci) N (G.1.2 ci) H1 (updV V k v) → H1.size = H.size → (∀ q : Nat, q ≠ a → H1[q]? = H[q]?) → Om2 H1)
    (hdg : decode cc pc = .ok (.putfield idx, 3)) (kk : Z X nL A Om2 uc us (pc + 3) lv rest) : Z X nL A Om uc us pc lv (v :: .ref a :: rest) := by
  intro H locs ls hH hS hl
  have hap := va_apart (own := own) cx.ts hin ty0 hty hnm cx.K hc
  obtain ⟨cell, q1, q2, q3, q4⟩ := hO H hH
  obtain ⟨hSl, hfc, kC, hkC, hkind⟩ := cx.K.1 ci _ hc
  obtain ⟨cf, kf, fi, f, hi, hsl⟩ := hSl k hk
  have hlay := cx.ts _ (hin _ (u_in_lay hk))
  unfold u_lay at hlay
  rw [if_pos hfin] at hlay
  have hst := (u_facts hfc hkC (u_lays cx.ts hin hk) hi).1
  have hcf : (zM X).cls = cf := by
    obtain ⟨_, _, c', _, _, _, -, -, hf', -, -, -, hown2, -⟩ := Cond.laysFinal_spec hlay
    have e1 : c' = cf := by have := hi.symm.trans hf'; simp at this; exact this.1.symm
    rw [hdecl] at hown2
    rw [← e1]; exact Option.some.inj (cx.ow.symm.trans hown2)
  have h6 := u_fits hfc hkC hkind (Or.inr hlay) hi hd hn hfit
  refine W.putFinK cx.exec cx.code cx.ow (cx.ts _ q) (hsame _ hi) hst hcf hmn (by rw [q2]; exact h6) q1 q3 (by rw [hsl]; exact k2_hasslot (q4 k hk)) rfl rfl hdg fun H' e1 e2 e3 => ?_
  rw [hsl] at e1 ⊢
  exact kk H' _ ls (hup H H' hH ⟨_, e1, q2, q3, t_set q4 hap hk v⟩ e2 e3) (hS.put e2 e3 hA) hl
/-- new C -/
theorem zg_new {Om3 : Nat → Heap → Prop} (cx : Cx X cc nL own ret fr lo mc ms A G) (hc : zCl[ci]? = some (C, T, N)) (hin : ∀ w ∈ u_ws C T N, w ∈ lw_all) (ty0 : Nat → FieldType) (hty : ∀ k, k < N → parseFieldDescriptor (T k).2.2.1 = some (ty0 k))
    (q1 : Cond.classLink own idx C ∈ lw_all) (q2 : Cond.instantiable C N ∈ lw_all) (q3 : Cond.initialized C ∈ lw_all) (hu : uc + 1 ≤ mc) (hus : us + N ≤ ms)
    (hup : ∀ H H1 : Heap, Om H → A H.size → t_OB H.size (G.1.1 ci) N (G.1.2 ci) H1 (fun k => defaultValue (ty0 k)) → H1.size = H.size + 1 → (∀ q : Nat, q < H.size → H1[q]? = H[q]?) → Om3 H.size H1)
    (hdg : decode cc pc = .ok (.new idx, 3)) (kk : ∀ q, Z X nL A (Om3 q) (uc + 1) (us + N) (pc + 3) lv (.ref q :: rest)) : Z X nL A Om uc us pc lv rest := by
  intro H locs ls hH hS hl
  have hKn := cx.K.1 ci _ hc
  refine W.newcK cx.exec cx.code cx.ow (cx.ts _ q1) (cx.ts _ q2) (cx.ts _ q3) rfl hdg (Nat.le_trans hu cx.hmc) (Nat.le_trans hus cx.hms) hKn.2.1 rfl fun H1 kC hkC e1 z1 o1 => ?_
  exact kk H.size H1 _ ls (hup H H1 hH (cx.hA _ hS.1) (u_born ty0 cx.ts hin hKn hkC e1 hty) z1 o1) ⟨Nat.le_trans hS.1 (by omega), fun x h1 h2 => (o1 x (Nat.lt_of_lt_of_le h1 hS.1)).trans (hS.2.1 x h1 h2), hS.2.2⟩ hl
/-- int arrays -/
theorem zg_iald (cx : Cx X cc nL own ret fr lo mc ms A G) {n : Nat} {f : Nat → Int32} {i : Int32} (ha : ∀ H, Om H → H[a]? = some (vp_cell (G.2.1 0) (n, .inl f))) (hin : vp_in i n) (hdg : decode cc pc = .ok (.iaload, 1))
    (kk : Z X nL A Om uc us (pc + 1) lv (.int (f i.toNatClampNeg) :: rest)) : Z X nL A Om uc us pc lv (.int i :: .ref a :: rest) := by
  intro H locs ls hH hS hl
  exact va_iald (ws := [(a, .inl (G.2.1 0, n, .inl f))]) cx.exec cx.code cx.K (fun k q hq => by
    match k, hq with
    | 0, hq => cases hq; exact ha H hH) 0 0 rfl rfl hin hdg (kk H locs ls hH hS hl)
theorem zg_zald (cx : Cx X cc nL own ret fr lo mc ms A G) {n : Nat} {f : Nat → Int32} {i : Int32} (ha : ∀ H, Om H → H[a]? = some (vp_cell (G.2.1 4) (n, .inl f))) (hin : vp_in i n) (hdg : decode cc pc = .ok (.baload, 1))
    (kk : Z X nL A Om uc us (pc + 1) lv (.int (f i.toNatClampNeg) :: rest)) : Z X nL A Om uc us pc lv (.int i :: .ref a :: rest) := by
  intro H locs ls hH hS hl
  exact va_zald (ws := [(a, .inl (G.2.1 4, n, .inl f))]) cx.exec cx.code cx.K (fun k q hq => by
    match k, hq with
    | 0, hq => cases hq; exact ha H hH) 0 4 rfl rfl hin hdg (kk H locs ls hH hS hl)
theorem zg_iast (cx : Cx X cc nL own ret fr lo mc ms A G) {n : Nat} {f : Nat → Int32} {i x : Int32} (ha : ∀ H, Om H → H[a]? = some (vp_cell (G.2.1 0) (n, .inl f))) (hA : A a) (hin : vp_in i n)
    (hup : ∀ H H1 : Heap, Om H → H1[a]? = some (vp_cell (G.2.1 0) (n, .inl (upd f i.toNatClampNeg x))) → H1.size = H.size → (∀ q : Nat, q ≠ a → H1[q]? = H[q]?) → Om2 H1)
    (hdg : decode cc pc = .ok (.iastore, 1)) (kk : Z X nL A Om2 uc us (pc + 1) lv rest) : Z X nL A Om uc us pc lv (.int x :: .int i :: .ref a :: rest) := by
  intro H locs ls hH hS hl
  refine W.iast cx.exec cx.code (ha H hH) ((cx.K.2 0 _ rfl).1 n (fun j => .int (f j))) (fun q => by cases q) (by show ¬ (i < 0 ∨ (arrV _ _ _).slots.size ≤ _); rw [arrV_size]; exact hin) rfl rfl hdg fun H1 e z oq => ?_
  refine kk H1 _ ls (hup H H1 hH ?_ z oq) (hS.put z oq hA) hl
  rw [e]
  rw [vp_cell_i, vp_cell_i, arrV_store]
  congr 2
  funext q
  by_cases hq : q = i.toNatClampNeg
  · subst hq
    simp [updV, upd]
  · simp [updV, upd, hq]
theorem zg_zast (cx : Cx X cc nL own ret fr lo mc ms A G) {n : Nat} {f : Nat → Int32} {i x : Int32} (hx : x = 0 ∨ x = 1) (ha : ∀ H, Om H → H[a]? = some (vp_cell (G.2.1 4) (n, .inl f))) (hA : A a) (hin : vp_in i n)
    (hup : ∀ H H1 : Heap, Om H → H1[a]? = some (vp_cell (G.2.1 4) (n, .inl (upd f i.toNatClampNeg x))) → H1.size = H.size → (∀ q : Nat, q ≠ a → H1[q]? = H[q]?) → Om2 H1)
    (hdg : decode cc pc = .ok (.bastore, 1)) (kk : Z X nL A Om2 uc us (pc + 1) lv rest) : Z X nL A Om uc us pc lv (.int x :: .int i :: .ref a :: rest) := by
  intro H locs ls hH hS hl
  refine W.zast cx.exec cx.code (ha H hH) ((cx.K.2 4 _ rfl).1 n (fun j => .int (f j))) (fun q => by cases q) (by show ¬ (i < 0 ∨ (arrV _ _ _).slots.size ≤ _); rw [arrV_size]; exact hin) rfl rfl hdg fun H1 e z oq => ?_
  refine kk H1 _ ls (hup H H1 hH ?_ z oq) (hS.put z oq hA) hl
  rw [e]
  rw [vp_cell_i, vp_cell_i, arrV_store]
  congr 2
  funext q
  by_cases hq : q = i.toNatClampNeg
  · subst hq
    rcases hx with e | e <;> subst e <;> simp [updV, upd, narrow]
  · simp [updV, upd, hq]
/-- long arrays -/
theorem zg_lald (cx : Cx X cc nL own ret fr lo mc ms A G) {n : Nat} {f : Nat → Int64} {i : Int32} (ha : ∀ H, Om H → H[a]? = some (vp_cell (G.2.1 5) (n, .inr (.inl f)))) (hin : vp_in i n) (hdg : decode cc pc = .ok (.laload, 1))
    (kk : Z X nL A Om uc us (pc + 1) lv (.long (f i.toNatClampNeg) :: rest)) : Z X nL A Om uc us pc lv (.int i :: .ref a :: rest) := by
  intro H locs ls hH hS hl
  exact va_lald (ws := [(a, .inl (G.2.1 5, n, .inr (.inl f)))]) cx.exec cx.code cx.K (fun k q hq => by
    match k, hq with
    | 0, hq => cases hq; exact ha H hH) 0 5 rfl rfl hin hdg (kk H locs ls hH hS hl)
theorem zg_last (cx : Cx X cc nL own ret fr lo mc ms A G) {n : Nat} {f : Nat → Int64} {i : Int32} {x : Int64} (ha : ∀ H, Om H → H[a]? = some (vp_cell (G.2.1 5) (n, .inr (.inl f)))) (hA : A a) (hin : vp_in i n)
    (hup : ∀ H H1 : Heap, Om H → H1[a]? = some (vp_cell (G.2.1 5) (n, .inr (.inl (vp_updL f i.toNatClampNeg x)))) → H1.size = H.size → (∀ q : Nat, q ≠ a → H1[q]? = H[q]?) → Om2 H1)
    (hdg : decode cc pc = .ok (.lastore, 1)) (kk : Z X nL A Om2 uc us (pc + 1) lv rest) : Z X nL A Om uc us pc lv (.long x :: .int i :: .ref a :: rest) := by
  intro H locs ls hH hS hl
  refine W.last cx.exec cx.code (ha H hH) ((cx.K.2 5 _ rfl).1 n (fun j => .long (f j))) (fun q => by cases q) (by show ¬ (i < 0 ∨ (arrV _ _ _).slots.size ≤ _); rw [arrV_size]; exact hin) rfl rfl hdg fun H1 e z oq => ?_
  refine kk H1 _ ls (hup H H1 hH ?_ z oq) (hS.put z oq hA) hl
  rw [e]
  rw [vp_cell_l, vp_cell_l, arrV_store]
  congr 2
  funext q
  by_cases hq : q = i.toNatClampNeg
  · subst hq
    simp [updV, vp_updL]
  · simp [updV, vp_updL, hq]
/-- arrays of references: kd is their place in zTy -/
theorem zg_aald (cx : Cx X cc nL own ret fr lo mc ms A G) {n kd : Nat} {f : Nat → Option Nat} {i : Int32} {ty : FieldType} (hk : (zTy G)[kd]? = some (G.2.1 kd, ty)) (hty : ty.isReference = true) (ha : ∀ H, Om H → H[a]? = some (vp_cell (G.2.1 kd) (n, .inr (.inr (.inr (.inr f)))))) (hin : vp_in i n) (hdg : decode cc pc = .ok (.aaload, 1))
    (kk : Z X nL A Om uc us (pc + 1) lv (va_rf (f i.toNatClampNeg) :: rest)) : Z X nL A Om uc us pc lv (.int i :: .ref a :: rest) := by
  intro H locs ls hH hS hl
  have hlt : i.toNatClampNeg < n := Nat.not_le.mp fun q => hin (Or.inr q)
  exact W.aald (v := va_rf (f i.toNatClampNeg)) cx.exec cx.code (ha H hH) ((cx.K.2 kd _ hk).1 n (fun j => va_rf (f j))) hty (fun q => by cases q) (by show ¬ (i < 0 ∨ (arrV _ _ _).slots.size ≤ _); rw [arrV_size]; exact hin) (by show (arrV _ _ _).slots[_]? = _; rw [arrV_read _ _ hlt]) rfl rfl hdg (kk H locs ls hH hS hl)
theorem zg_alen (cx : Cx X cc nL own ret fr lo mc ms A G) {kd : Nat} {x : vp_A} {ty : FieldType} (hk : (zTy G)[kd]? = some (G.2.1 kd, ty)) (ha : ∀ H, Om H → H[a]? = some (vp_cell (G.2.1 kd) x)) (hdg : decode cc pc = .ok (.arraylength, 1))
    (kk : Z X nL A Om uc us (pc + 1) lv (.int (Int32.ofNat x.1) :: rest)) : Z X nL A Om uc us pc lv (.ref a :: rest) := by
  intro H locs ls hH hS hl
  exact va_alen (ws := [(a, .inl (G.2.1 kd, x))]) cx.exec cx.code cx.K (fun k q hq => by
    match k, hq with
    | 0, hq => cases hq; exact ha H hH) 0 kd rfl hk rfl hdg (kk H locs ls hH hS hl)
/-- newarray of ints (kd 0), booleans (kd 4), longs (kd 5) -/
theorem zg_newa {Om3 : Nat → Heap → Prop} (cx : Cx X cc nL own ret fr lo mc ms A G) {atype : ArrayType} {kd N0 : Nat} {a0 : vp_A} {n : Int32} (hk : (zTy G)[kd]? = some (G.2.1 kd, newarray.typeOf atype)) (q : Cond.arrayClass (newarray.typeOf atype) ∈ lw_all)
    (hty : ∀ U c1 c2, va_RA U c1 (newarray.typeOf atype) → U.vm.findClass ("[" ++ (newarray.typeOf atype).toString) = some c2 → c2 = c1)
    (ha : ∀ cA : ClassId, vp_cell cA a0 = arrV cA N0 (fun _ => defaultValue (newarray.typeOf atype))) (hn : ¬ n < 0) (hN : n.toNatClampNeg = N0) (hb : N0 * componentBytes (newarray.typeOf atype) ≤ 536870912) (hu : uc + 1 ≤ mc) (hus : us + N0 ≤ ms)
    (hup : ∀ H H1 : Heap, Om H → A H.size → H1[H.size]? = some (vp_cell (G.2.1 kd) a0) → H1.size = H.size + 1 → (∀ q : Nat, q < H.size → H1[q]? = H[q]?) → Om3 H.size H1)
    (hdg : decode cc pc = .ok (.newarray atype, 2)) (kk : ∀ q, Z X nL A (Om3 q) (uc + 1) (us + N0) (pc + 2) lv (.ref q :: rest)) : Z X nL A Om uc us pc lv (.int n :: rest) := by
  intro H locs ls hH hS hl
  refine va_newaK cx.exec cx.code (cx.ts _ q) rfl hdg rfl hn hN hb (Nat.le_trans hu cx.hmc) (Nat.le_trans hus cx.hms) rfl fun H1 cA e1 z1 o1 hAr hNm => ?_
  have e2 : cA = G.2.1 kd := hty _ _ _ (cx.K.2 kd _ hk).2 hNm
  subst e2
  exact kk H.size H1 _ ls (hup H H1 hH (cx.hA _ hS.1) (by rw [ha]; exact e1) z1 o1) ⟨Nat.le_trans hS.1 (by omega), fun x h1 h2 => (o1 x (Nat.lt_of_lt_of_le h1 hS.1)).trans (hS.2.1 x h1 h2), hS.2.2⟩ hl
/-- anewarray of C (kd its place in zTy) -/
theorem zg_anew {Om3 : Nat → Heap → Prop} (cx : Cx X cc nL own ret fr lo mc ms A G) {kd N0 : Nat} {n : Int32} (hk : (zTy G)[kd]? = some (G.2.1 kd, .object C)) (q : Cond.classLink own idx C ∈ lw_all) (hAO : va_AO C (zS X))
    (hn : ¬ n < 0) (hN : n.toNatClampNeg = N0) (hb : N0 * 4 ≤ 536870912) (hu : uc + 1 ≤ mc) (hus : us + N0 ≤ ms)
    (hup : ∀ H H1 : Heap, Om H → A H.size → H1[H.size]? = some (vp_cell (G.2.1 kd) (N0, .inr (.inr (.inr (.inr fun _ => none))))) → H1.size = H.size + 1 → (∀ q : Nat, q < H.size → H1[q]? = H[q]?) → Om3 H.size H1)
    (hdg : decode cc pc = .ok (.anewarray idx, 3)) (kk : ∀ q, Z X nL A (Om3 q) (uc + 1) (us + N0) (pc + 3) lv (.ref q :: rest)) : Z X nL A Om uc us pc lv (.int n :: rest) := by
  intro H locs ls hH hS hl
  subst hN
  refine W.anew cx.exec cx.code cx.ow (cx.ts _ q) (va_AO.use hAO) rfl hdg rfl hn hb (Nat.le_trans hu cx.hmc) (Nat.le_trans hus cx.hms) fun cA kA comp f1 f2 f3 f4 => ?_
  generalize hH1 : H.push ({ cls := cA, slots := Array.replicate n.toNatClampNeg .null, vm := .none } : Cell) = H1
  have z1 : H1.size = H.size + 1 := by rw [← hH1, Array.size_push]
  have e1 : H1[H.size]? = some (arrV cA n.toNatClampNeg (fun _ => .null)) := by rw [← hH1, Array.getElem?_push_size, ← arrV_new]
  have o1 : ∀ q : Nat, q < H.size → H1[q]? = H[q]? := fun q hq => by rw [← hH1, Array.getElem?_push, if_neg (Nat.ne_of_lt hq)]
  obtain ⟨kA0, comp0, g1, g2, g3, g4⟩ := (cx.K.2 kd _ hk).2
  have e2 : cA = G.2.1 kd := Option.some.inj (f1.symm.trans g4)
  subst e2
  exact kk H.size H1 _ ls (hup H H1 hH (cx.hA _ hS.1) (by rw [vp_cell_q]; exact e1) z1 o1) ⟨Nat.le_trans hS.1 (by omega), fun x h1 h2 => (o1 x (Nat.lt_of_lt_of_le h1 hS.1)).trans (hS.2.1 x h1 h2), hS.2.2⟩ hl
/-- a[i] = v, v an object of a class that may lie there -/
theorem zg_aast (cx : Cx X cc nL own ret fr lo mc ms A G) {n kd v : Nat} {f : Nat → Option Nat} {i : Int32} {E : String} (hk : (zTy G)[kd]? = some (G.2.1 kd, .object E)) (ha : ∀ H, Om H → H[a]? = some (vp_cell (G.2.1 kd) (n, .inr (.inr (.inr (.inr f)))))) (hA : A a) (hin : vp_in i n)
    (hr : ∀ H (locs : List Loc), Om H → va_S A (zS X).heap H locs → va_Any E (zS X) H v)
    (hup : ∀ H H1 : Heap, Om H → H1[a]? = some (vp_cell (G.2.1 kd) (n, .inr (.inr (.inr (.inr (va_up f i.toNatClampNeg (some v))))))) → H1.size = H.size → (∀ q : Nat, q ≠ a → H1[q]? = H[q]?) → Om2 H1)
    (hdg : decode cc pc = .ok (.aastore, 1)) (kk : Z X nL A Om2 uc us (pc + 1) lv rest) : Z X nL A Om uc us pc lv (.ref v :: .int i :: .ref a :: rest) := by
  intro H locs ls hH hS hl
  have hlt : i.toNatClampNeg < n := Nat.not_le.mp fun q => hin (Or.inr q)
  have h0 : ¬ i < 0 := fun q => hin (Or.inl q)
  obtain ⟨cellV, g1, g3, ⟨kC, hkC⟩, hasg⟩ := hr H locs hH hS
  obtain ⟨kA, comp, k1, k2, k3, -⟩ := (cx.K.2 kd _ hk).2
  obtain ⟨kE, hkE, -⟩ := Vm.findClass_spec k3
  refine W.aast cx.exec cx.code (ha H hH) (fun q h => by cases h) (fun h => by cases h) k1 k2 rfl hkE ⟨h0, by show _ < (arrV _ _ _).slots.size; rw [arrV_size]; exact hlt⟩ g1 (fun q h => by rw [h] at g3; cases g3) hkC (hasg _ k3) rfl rfl hdg fun H1 e z oq => ?_
  refine kk H1 _ ls (hup H H1 hH ?_ z oq) (hS.put z oq hA) hl
  rw [e]
  rw [vp_cell_q, vp_cell_q, arrV_store]
  congr 2
  funext q
  by_cases hq : q = i.toNatClampNeg
  · subst hq
    simp [updV, va_up, va_rf]
  · simp [updV, va_up, hq]
/-- Object.<init> -/
theorem z_objInit (cx : Cx X cc nL own ret fr lo mc ms A G) (q1 : Cond.methodLink own idx objectInit ∈ lw_all) (q2 : Cond.instanceMethod objectInit ∈ lw_all) (q3 : Cond.code objectInit ⟨#[0xb1]⟩ 1 none ∈ lw_all) (hdg : decode cc pc = .ok (.invokespecial idx, 3))
    (hfr : 1 ≤ fr) (hlo : (rest.map fun v => v.category).sum + 12 ≤ lo) (kk : Z X nL A Om uc us (pc + 3) lv rest) : Z X nL A Om uc us pc lv (.ref a :: rest) := by
  intro H locs ls hH hS hl
  refine W.objInit (g := F0 (zM X) pc ls (.ref a :: rest)) cx.exec cx.code cx.ow (cx.ts _ q1) (cx.ts _ q2) (cx.ts _ q3) rfl (by rw [cx.maxL]; exact hl.1.1) rfl hdg (Nat.le_trans hfr cx.hfr) (Nat.le_trans (by show 2 * 0 + _ + 12 ≤ _; omega) (Nat.le_trans hlo cx.hlo)) (kk H locs ls hH hS hl)
/-- checkcast of an object of a known class -/
theorem z_cast (cx : Cx X cc nL own ret fr lo mc ms A G) {nm : String} (q1 : Cond.classLink own idx nm ∈ lw_all) (q2 : Cond.castable C nm ∈ lw_tbl) (hr : zrv X A Om a C) (hdg : decode cc pc = .ok (.checkcast idx, 3)) (kk : Z X nL A Om uc us (pc + 3) lv (.ref a :: rest)) : Z X nL A Om uc us pc lv (.ref a :: rest) := by
  intro H locs ls hH hS hl
  exact va_castY cx.exec cx.code cx.ow (cx.ts _ q1) (cx.nw q2 rfl) (hr H locs hH hS) hdg (kk H locs ls hH hS hl)
end ZH

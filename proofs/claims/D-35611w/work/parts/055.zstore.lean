/-! THE COMPONENT'S WORLD: a store of objects, arrays and lists (an ArrayList with its row of elements is ONE thing of the store) -/
set_option maxRecDepth 100000
section ZS
/-- an object (class, fields), an array (kind: its place in zTy; what it holds), a list (its elements' addresses) -/
abbrev zO : Type := (Nat × List Value) ⊕ (Nat × vp_A) ⊕ List Nat
/-- constant objects' addresses; the store -/
abbrev zSt : Type := (Nat → Nat) × (Nat → Option zO)
abbrev zob (ci : Nat) (fs : List Value) : zO := .inl (ci, fs)
abbrev zia_ (kd n : Nat) (f : Nat → Int32) : zO := .inr (.inl (kd, (n, .inl f)))
abbrev zja_ (n : Nat) (f : Nat → Int64) : zO := .inr (.inl (5, (n, .inr (.inl f))))
abbrev zra_ (kd n : Nat) (f : Nat → Option Nat) : zO := .inr (.inl (kd, (n, .inr (.inr (.inr (.inr f))))))
abbrev zlt (xs : List Nat) : zO := .inr (.inr xs)
def zset (τ : Nat → Option zO) (a : Nat) (o : zO) : Nat → Option zO := fun q => if q = a then some o else τ q
def zdel (τ : Nat → Option zO) (a : Nat) : Nat → Option zO := fun q => if q = a then none else τ q
abbrev zup_ (σ : zSt) (a : Nat) (o : zO) : zSt := (σ.1, zset σ.2 a o)
theorem zset_eq {τ : Nat → Option zO} {a : Nat} {o : zO} : zset τ a o a = some o := by simp [zset]
theorem zset_ne {τ : Nat → Option zO} {a b : Nat} {o : zO} (h : b ≠ a) : zset τ a o b = τ b := by simp [zset, h]
/-- what may lie in a list: an object of the store, or a cached Integer -/
def zel (σ : zSt) (y : Nat) : Prop := (∃ ci fs, σ.2 y = some (zob ci fs) ∧ ci ≠ 15) ∨ ∃ k, k < 256 ∧ y = σ.1 k
def zhl (G : zG) (A : Nat → Prop) (σ : zSt) (bk : Nat → Nat) (H : Heap) (a : Nat) (xs : List Nat) : Prop :=
  ∃ (mcn : Int32) (n : Nat) (f : Nat → Option Nat), t_OB a (G.1.1 15) 3 (G.1.2 15) H (vp_V [.int mcn, .ref (bk a), .int (nI xs.length)]) ∧ xs.length ≤ n ∧ n < 2 ^ 31 ∧ (∀ i, i < n → f i = xs[i]?) ∧
    ((H[bk a]? = some (vp_cell (G.2.1 1) (n, .inr (.inr (.inr (.inr f))))) ∧ A (bk a) ∧ σ.2 (bk a) = none ∧ ∀ b ys, σ.2 b = some (zlt ys) → bk b = bk a → b = a) ∨ (n = 0 ∧ (bk a = σ.1 256 ∨ bk a = σ.1 257)))
def WC (G : zG) (A : Nat → Prop) (σ : zSt) (H : Heap) : Prop :=
  σ.1 = G.2.2 ∧ (∀ a ci fs, σ.2 a = some (zob ci fs) → ∃ r : vw_C, zCl[ci]? = some r ∧ fs.length = r.2.2 ∧ t_OB a (G.1.1 ci) r.2.2 (G.1.2 ci) H (vp_V fs)) ∧
  (∀ a kd x, σ.2 a = some (.inr (.inl (kd, x))) → H[a]? = some (vp_cell (G.2.1 kd) x)) ∧
  (∃ bk : Nat → Nat, ∀ a xs, σ.2 a = some (zlt xs) → zhl G A σ bk H a xs) ∧
  (∀ a o, σ.2 a = some o → A a) ∧ (∀ a xs, σ.2 a = some (zlt xs) → ∀ y ∈ xs, zel σ y) ∧ ∀ a n f, σ.2 a = some (zra_ 1 n f) → ∀ i, i < n → ∀ y, f i = some y → zel σ y
variable {G : zG} {A : Nat → Prop} {σ : zSt} {H H1 : Heap} {a : Nat}
theorem t_OB.lt {o : Nat} {cC : ClassId} {N : Nat} {iS : Nat → Nat} {V : Nat → Value} (h : t_OB o cC N iS H V) : o < H.size := by
  obtain ⟨cell, h2, -⟩ := h
  exact (Array.getElem?_eq_some_iff.mp h2).1
theorem WC.lt (h : WC G A σ H) {o : zO} (ho : σ.2 a = some o) : a < H.size := by
  obtain ⟨-, h1, h2, ⟨bk, h3⟩, -⟩ := h
  rcases o with ⟨ci, fs⟩ | ⟨kd, x⟩ | xs
  · obtain ⟨r, -, -, g⟩ := h1 a ci fs ho; exact g.lt
  · exact (Array.getElem?_eq_some_iff.mp (h2 a kd x ho)).1
  · obtain ⟨mcn, n, f, g, -⟩ := h3 a xs ho; exact g.lt
theorem WC.fresh (h : WC G A σ H) : σ.2 H.size = none := by
  cases e : σ.2 H.size with
  | none => rfl
  | some o => exact absurd (h.lt e) (Nat.lt_irrefl _)
/-- new cells elsewhere -/
theorem WC.grow (h : WC G A σ H) (hz : H.size ≤ H1.size) (ho : ∀ q : Nat, q < H.size → H1[q]? = H[q]?) : WC G A σ H1 := by
  obtain ⟨h0, h1, h2, ⟨bk, h3⟩, h4⟩ := h
  refine ⟨h0, fun a ci fs e => ?_, fun a kd x e => ?_, ⟨bk, fun a xs e => ?_⟩, h4⟩
  · obtain ⟨r, g1, g2, g3⟩ := h1 a ci fs e
    exact ⟨r, g1, g2, g3.kept (ho _ g3.lt)⟩
  · have g := h2 a kd x e
    rw [ho _ (Array.getElem?_eq_some_iff.mp g).1]; exact g
  · obtain ⟨mcn, n, f, g1, g2, g3, g4, g5⟩ := h3 a xs e
    refine ⟨mcn, n, f, g1.kept (ho _ g1.lt), g2, g3, g4, ?_⟩
    rcases g5 with ⟨k1, k2⟩ | k
    · exact Or.inl ⟨by rw [ho _ (Array.getElem?_eq_some_iff.mp k1).1]; exact k1, k2⟩
    · exact Or.inr k
theorem zel_set {σ : zSt} {a y : Nat} {o : zO} (h : zel σ y) (ho : ∀ ci fs, σ.2 a = some (zob ci fs) → ∃ fs', o = zob ci fs') : zel (zup_ σ a o) y := by
  rcases h with ⟨ci, fs, h, h15⟩ | h
  · by_cases e : y = a
    · subst e
      obtain ⟨fs', e2⟩ := ho ci fs h
      exact Or.inl ⟨ci, fs', by show zset σ.2 y o y = _; rw [zset_eq, e2], h15⟩
    · exact Or.inl ⟨ci, fs, by show zset σ.2 a o y = _; rw [zset_ne e]; exact h, h15⟩
  · exact Or.inr h
/-- a write into a cell of the store that is an object or an array -/
theorem WC.write (h : WC G A σ H) {o o2 : zO} (ho : σ.2 a = some o) (hno : ∀ xs, o ≠ zlt xs) (hno2 : ∀ xs, o2 ≠ zlt xs) (hk : ∀ ci fs, o = zob ci fs → ∃ fs', o2 = zob ci fs')
    (hq : ∀ q : Nat, q ≠ a → H1[q]? = H[q]?) (c1 : ∀ ci fs, o2 = zob ci fs → ∃ r : vw_C, zCl[ci]? = some r ∧ fs.length = r.2.2 ∧ t_OB a (G.1.1 ci) r.2.2 (G.1.2 ci) H1 (vp_V fs))
    (c2 : ∀ kd x, o2 = .inr (.inl (kd, x)) → H1[a]? = some (vp_cell (G.2.1 kd) x)) (c3 : ∀ n f, o2 = zra_ 1 n f → ∀ i, i < n → ∀ y, f i = some y → zel σ y) : WC G A (zup_ σ a o2) H1 := by
  obtain ⟨h0, h1, h2, ⟨bk, h3⟩, h4, h5, h6⟩ := h
  have key : ∀ {b : Nat} {x : zO}, zset σ.2 a o2 b = some x → (b = a ∧ x = o2) ∨ (b ≠ a ∧ σ.2 b = some x) := by
    intro b x e
    by_cases hb : b = a
    · subst hb; rw [zset_eq] at e; exact Or.inl ⟨rfl, (Option.some.inj e).symm⟩
    · rw [zset_ne hb] at e; exact Or.inr ⟨hb, e⟩
  have hz : ∀ y, zel σ y → zel (zup_ σ a o2) y := fun y hy => zel_set hy (fun ci fs e => hk ci fs (Option.some.inj (ho.symm.trans e)))
  refine ⟨h0, fun b ci fs e => ?_, fun b kd x e => ?_, ⟨bk, fun b xs e => ?_⟩, fun b x e => ?_, fun b xs e y hy => ?_, fun b n f e i hi y hy => ?_⟩
  · rcases key e with ⟨rfl, e2⟩ | ⟨hb, e2⟩
    · exact c1 ci fs e2.symm
    · obtain ⟨r, g1, g2, g3⟩ := h1 b ci fs e2
      exact ⟨r, g1, g2, g3.kept (hq b hb)⟩
  · rcases key e with ⟨rfl, e2⟩ | ⟨hb, e2⟩
    · exact c2 kd x e2.symm
    · rw [hq b hb]; exact h2 b kd x e2
  · rcases key e with ⟨rfl, e2⟩ | ⟨hb, e2⟩
    · exact absurd e2.symm (hno2 xs)
    · obtain ⟨mcn, n, f, g1, g2, g3, g4, g5⟩ := h3 b xs e2
      refine ⟨mcn, n, f, g1.kept (hq b hb), g2, g3, g4, ?_⟩
      rcases g5 with ⟨k1, k2, k3, k4⟩ | k
      · have hba : bk b ≠ a := fun e3 => by rw [e3, ho] at k3; cases k3
        refine Or.inl ⟨by rw [hq _ hba]; exact k1, k2, by show zset σ.2 a o2 (bk b) = none; rw [zset_ne hba]; exact k3, fun b' ys e4 e5 => ?_⟩
        rcases key e4 with ⟨rfl, e6⟩ | ⟨-, e6⟩
        · exact absurd e6.symm (hno2 ys)
        · exact k4 b' ys e6 e5
      · exact Or.inr k
  · rcases key e with ⟨rfl, -⟩ | ⟨-, e2⟩
    · exact h4 b o ho
    · exact h4 b x e2
  · rcases key e with ⟨rfl, e2⟩ | ⟨-, e2⟩
    · exact absurd e2.symm (hno2 xs)
    · exact hz y (h5 b xs e2 y hy)
  · rcases key e with ⟨rfl, e2⟩ | ⟨-, e2⟩
    · exact hz y (c3 n f e2.symm i hi y hy)
    · exact hz y (h6 b n f e2 i hi y hy)
/-- a new cell -/
theorem WC.new (h : WC G A σ H) (hA : A H.size) {o2 : zO} (hno2 : ∀ xs, o2 ≠ zlt xs) (hz : H1.size = H.size + 1) (ho : ∀ q : Nat, q < H.size → H1[q]? = H[q]?)
    (c1 : ∀ ci fs, o2 = zob ci fs → ∃ r : vw_C, zCl[ci]? = some r ∧ fs.length = r.2.2 ∧ t_OB H.size (G.1.1 ci) r.2.2 (G.1.2 ci) H1 (vp_V fs))
    (c2 : ∀ kd x, o2 = .inr (.inl (kd, x)) → H1[H.size]? = some (vp_cell (G.2.1 kd) x)) (c3 : ∀ n f, o2 = zra_ 1 n f → ∀ i, i < n → ∀ y, f i = some y → zel σ y) : WC G A (zup_ σ H.size o2) H1 := by
  have hfr := h.fresh
  have hlt : ∀ {b : Nat} {x : zO}, σ.2 b = some x → b < H.size := fun e => h.lt e
  obtain ⟨h0, h1, h2, ⟨bk, h3⟩, h4, h5, h6⟩ := h
  have key : ∀ {b : Nat} {x : zO}, zset σ.2 H.size o2 b = some x → (b = H.size ∧ x = o2) ∨ (b ≠ H.size ∧ σ.2 b = some x) := by
    intro b x e
    by_cases hb : b = H.size
    · subst hb; rw [zset_eq] at e; exact Or.inl ⟨rfl, (Option.some.inj e).symm⟩
    · rw [zset_ne hb] at e; exact Or.inr ⟨hb, e⟩
  have hzz : ∀ y, zel σ y → zel (zup_ σ H.size o2) y := fun y hy => zel_set hy (fun ci fs e => by rw [hfr] at e; cases e)
  refine ⟨h0, fun b ci fs e => ?_, fun b kd x e => ?_, ⟨bk, fun b xs e => ?_⟩, fun b x e => ?_, fun b xs e y hy => ?_, fun b n f e i hi y hy => ?_⟩
  · rcases key e with ⟨rfl, e2⟩ | ⟨hb, e2⟩
    · exact c1 ci fs e2.symm
    · obtain ⟨r, g1, g2, g3⟩ := h1 b ci fs e2
      exact ⟨r, g1, g2, g3.kept (ho b g3.lt)⟩
  · rcases key e with ⟨rfl, e2⟩ | ⟨hb, e2⟩
    · exact c2 kd x e2.symm
    · rw [ho b (hlt e2)]; exact h2 b kd x e2
  · rcases key e with ⟨rfl, e2⟩ | ⟨hb, e2⟩
    · exact absurd e2.symm (hno2 xs)
    · obtain ⟨mcn, n, f, g1, g2, g3, g4, g5⟩ := h3 b xs e2
      refine ⟨mcn, n, f, g1.kept (ho b g1.lt), g2, g3, g4, ?_⟩
      rcases g5 with ⟨k1, k2, k3, k4⟩ | k
      · have hl2 := (Array.getElem?_eq_some_iff.mp k1).1
        have hba : bk b ≠ H.size := Nat.ne_of_lt hl2
        refine Or.inl ⟨by rw [ho _ hl2]; exact k1, k2, by show zset σ.2 H.size o2 (bk b) = none; rw [zset_ne hba]; exact k3, fun b' ys e4 e5 => ?_⟩
        rcases key e4 with ⟨rfl, e6⟩ | ⟨-, e6⟩
        · exact absurd e6.symm (hno2 ys)
        · exact k4 b' ys e6 e5
      · exact Or.inr k
  · rcases key e with ⟨rfl, -⟩ | ⟨-, e2⟩
    · exact hA
    · exact h4 b x e2
  · rcases key e with ⟨rfl, e2⟩ | ⟨-, e2⟩
    · exact absurd e2.symm (hno2 xs)
    · exact hzz y (h5 b xs e2 y hy)
  · rcases key e with ⟨rfl, e2⟩ | ⟨-, e2⟩
    · exact hzz y (c3 n f e2.symm i hi y hy)
    · exact hzz y (h6 b n f e2 i hi y hy)
/-! what the walk's predicates are made of -/
def zgf (σ : zSt) (a ci k : Nat) (K : Value → Prop) : Prop := match σ.2 a with
  | some (.inl (c, fs)) => c = ci ∧ match fs[k]? with
    | some v => K v
    | none => False
  | _ => False
def zgI (σ : zSt) (a ci k : Nat) (K : Int32 → Prop) : Prop := zgf σ a ci k (fun v => match v with
  | .int x => K x
  | _ => False)
def zgR (σ : zSt) (a ci k : Nat) (K : Nat → Prop) : Prop := zgf σ a ci k (fun v => match v with
  | .ref x => K x
  | _ => False)
def zpf (σ : zSt) (a ci k : Nat) (v : Value) (K : zSt → Prop) : Prop := match σ.2 a with
  | some (.inl (c, fs)) => c = ci ∧ K (zup_ σ a (zob ci (fs.set k v)))
  | _ => False
def zia (σ : zSt) (a kd : Nat) (i : Int32) (K : Int32 → Prop) : Prop := match σ.2 a with
  | some (.inr (.inl (d, (n, .inl f)))) => d = kd ∧ vp_in i n ∧ K (f i.toNatClampNeg)
  | _ => False
def zis (σ : zSt) (a kd : Nat) (i x : Int32) (K : zSt → Prop) : Prop := match σ.2 a with
  | some (.inr (.inl (d, (n, .inl f)))) => d = kd ∧ vp_in i n ∧ K (zup_ σ a (zia_ kd n (upd f i.toNatClampNeg x)))
  | _ => False
def zjs (σ : zSt) (a : Nat) (i : Int32) (x : Int64) (K : zSt → Prop) : Prop := match σ.2 a with
  | some (.inr (.inl (d, (n, .inr (.inl f))))) => d = 5 ∧ vp_in i n ∧ K (zup_ σ a (zja_ n (vp_updL f i.toNatClampNeg x)))
  | _ => False
def zaa (σ : zSt) (a kd : Nat) (i : Int32) (K : Option Nat → Prop) : Prop := match σ.2 a with
  | some (.inr (.inl (d, (n, .inr (.inr (.inr (.inr f))))))) => d = kd ∧ vp_in i n ∧ K (f i.toNatClampNeg)
  | _ => False
def zaR (σ : zSt) (a kd : Nat) (i : Int32) (K : Nat → Prop) : Prop := zaa σ a kd i (fun r => match r with
  | some x => K x
  | none => False)
/-- what may lie in an array of references: any object in an Object[] (1), a Forward in a Forward[] (2) -/
def zsl (σ : zSt) (kd : Nat) (r : Option Nat) : Prop := ∀ y, r = some y → (kd = 1 ∧ zel σ y) ∨ (kd = 2 ∧ ∃ fs, σ.2 y = some (zob 12 fs))
def zas (σ : zSt) (a kd : Nat) (i : Int32) (r : Option Nat) (K : zSt → Prop) : Prop := match σ.2 a with
  | some (.inr (.inl (d, (n, .inr (.inr (.inr (.inr f))))))) => d = kd ∧ vp_in i n ∧ zsl σ kd r ∧ K (zup_ σ a (zra_ kd n (va_up f i.toNatClampNeg r)))
  | _ => False
def zln (σ : zSt) (a : Nat) (K : Int32 → Prop) : Prop := match σ.2 a with
  | some (.inr (.inl (d, (n, _)))) => d < 6 ∧ K (nI n)
  | some _ => False
  | none => (a = σ.1 256 ∨ a = σ.1 257) ∧ K 0
def znew (σ : zSt) (ci : Nat) (fs : List Value) (K : Nat → zSt → Prop) : Prop := ∀ q, σ.2 q = none → K q (zup_ σ q (zob ci fs))
def znwa (σ : zSt) (kd n : Nat) (K : Nat → zSt → Prop) : Prop := ∀ q, σ.2 q = none → K q (zup_ σ q (if kd = 5 then zja_ n (fun _ => 0) else zia_ kd n (fun _ => 0)))
def znwr (σ : zSt) (kd : Nat) (x : Int32) (N : Nat) (K : Nat → zSt → Prop) : Prop := ∃ n, x = nI n ∧ n ≤ N ∧ ∀ q, σ.2 q = none → q ≠ σ.1 256 → q ≠ σ.1 257 → K q (zup_ σ q (zra_ kd n (fun _ => none)))
def znn (r : Option Nat) (K : Nat → Prop) : Prop := match r with
  | some a => K a
  | none => False
def zrc (σ : zSt) (a ci : Nat) : Prop := ∃ fs, σ.2 a = some (zob ci fs)
def zrl (σ : zSt) (a : Nat) : Prop := ∃ xs, σ.2 a = some (zlt xs)
def zri (σ : zSt) (a : Nat) : Prop := ∃ k, k < 256 ∧ a = σ.1 k
theorem znn_of {r : Option Nat} {K : Nat → Prop} (h : znn r K) : ∃ a, r = some a ∧ K a := by
  cases r with
  | none => exact h.elim
  | some a => exact ⟨a, rfl, h⟩
theorem zgf_of {ci k : Nat} {K : Value → Prop} (h : zgf σ a ci k K) : ∃ fs v, σ.2 a = some (zob ci fs) ∧ fs[k]? = some v ∧ K v := by
  unfold zgf at h
  split at h
  next c fs e =>
    obtain ⟨rfl, h⟩ := h
    split at h
    next v e2 => exact ⟨fs, v, e, e2, h⟩
    next => exact h.elim
  next => exact h.elim
theorem zgI_of {ci k : Nat} {K : Int32 → Prop} (h : zgI σ a ci k K) : ∃ fs x, σ.2 a = some (zob ci fs) ∧ fs[k]? = some (.int x) ∧ K x := by
  obtain ⟨fs, v, h1, h2, h3⟩ := zgf_of h
  cases v <;> first | exact ⟨fs, _, h1, h2, h3⟩ | exact h3.elim
theorem zgR_of {ci k : Nat} {K : Nat → Prop} (h : zgR σ a ci k K) : ∃ fs x, σ.2 a = some (zob ci fs) ∧ fs[k]? = some (.ref x) ∧ K x := by
  obtain ⟨fs, v, h1, h2, h3⟩ := zgf_of h
  cases v <;> first | exact ⟨fs, _, h1, h2, h3⟩ | exact h3.elim
theorem zpf_of {ci k : Nat} {v : Value} {K : zSt → Prop} (h : zpf σ a ci k v K) : ∃ fs, σ.2 a = some (zob ci fs) ∧ K (zup_ σ a (zob ci (fs.set k v))) := by
  unfold zpf at h
  split at h
  next c fs e => obtain ⟨rfl, h⟩ := h; exact ⟨fs, e, h⟩
  next => exact h.elim
theorem zia_of {kd : Nat} {i : Int32} {K : Int32 → Prop} (h : zia σ a kd i K) : ∃ n f, σ.2 a = some (zia_ kd n f) ∧ vp_in i n ∧ K (f i.toNatClampNeg) := by
  unfold zia at h
  split at h
  next d n f e => obtain ⟨rfl, h1, h2⟩ := h; exact ⟨n, f, e, h1, h2⟩
  next => exact h.elim
theorem zis_of {kd : Nat} {i x : Int32} {K : zSt → Prop} (h : zis σ a kd i x K) : ∃ n f, σ.2 a = some (zia_ kd n f) ∧ vp_in i n ∧ K (zup_ σ a (zia_ kd n (upd f i.toNatClampNeg x))) := by
  unfold zis at h
  split at h
  next d n f e => obtain ⟨rfl, h1, h2⟩ := h; exact ⟨n, f, e, h1, h2⟩
  next => exact h.elim
theorem zjs_of {i : Int32} {x : Int64} {K : zSt → Prop} (h : zjs σ a i x K) : ∃ n f, σ.2 a = some (zja_ n f) ∧ vp_in i n ∧ K (zup_ σ a (zja_ n (vp_updL f i.toNatClampNeg x))) := by
  unfold zjs at h
  split at h
  next d n f e => obtain ⟨rfl, h1, h2⟩ := h; exact ⟨n, f, e, h1, h2⟩
  next => exact h.elim
theorem zaa_of {kd : Nat} {i : Int32} {K : Option Nat → Prop} (h : zaa σ a kd i K) : ∃ n f, σ.2 a = some (zra_ kd n f) ∧ vp_in i n ∧ K (f i.toNatClampNeg) := by
  unfold zaa at h
  split at h
  next d n f e => obtain ⟨rfl, h1, h2⟩ := h; exact ⟨n, f, e, h1, h2⟩
  next => exact h.elim
theorem zas_of {kd : Nat} {i : Int32} {r : Option Nat} {K : zSt → Prop} (h : zas σ a kd i r K) : ∃ n f, σ.2 a = some (zra_ kd n f) ∧ vp_in i n ∧ zsl σ kd r ∧ K (zup_ σ a (zra_ kd n (va_up f i.toNatClampNeg r))) := by
  unfold zas at h
  split at h
  next d n f e => obtain ⟨rfl, h1, h2⟩ := h; exact ⟨n, f, e, h1, h2⟩
  next => exact h.elim
theorem zbn {x : Int32} (h : x = 0 ∨ x = 1) : narrow .boolean (.int x) = .int x := by rcases h with e | e <;> subst e <;> rfl
theorem zbf {x : Int32} (h : x = 0 ∨ x = 1) : fits .boolean (.int x) = true := by rcases h with e | e <;> subst e <;> rfl
end ZS

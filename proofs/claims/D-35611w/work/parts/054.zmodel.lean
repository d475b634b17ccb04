/-! THE MODEL'S WORLD: one object (CrateDeckModel) at m and its 56 arrays at mad k (k the field's number) -/
set_option maxRecDepth 100000
section ZM
/-- which fields are arrays, and how long -/
def zmL : List (Nat × Nat) := [(3, 20), (4, 200), (5, 200), (6, 200), (8, 10), (9, 10), (10, 10), (12, 10), (13, 10), (14, 10), (16, 12), (17, 60), (22, 8), (23, 8), (24, 8), (25, 8), (26, 8), (27, 8), (28, 192), (29, 192), (30, 192), (31, 24), (32, 24), (33, 24), (34, 800), (35, 40), (36, 8), (37, 48), (38, 48), (39, 24), (40, 100), (41, 100), (43, 8), (44, 8), (45, 24), (46, 24), (47, 24), (49, 8), (50, 8), (51, 8), (52, 8), (54, 50), (55, 50), (56, 50), (57, 50), (58, 8), (61, 20), (62, 20), (63, 20), (64, 20), (65, 20), (67, 3), (68, 3), (69, 3), (70, 3), (71, 3)]
def zmlk : List (Nat × Nat) → Nat → Option Nat
  | [], _ => none
  | (j, n) :: t, k => bif Nat.beq k j then some n else zmlk t k
def zml (k : Nat) : Option Nat := zmlk zmL k
def zmk (k : Nat) : Nat := bif Nat.beq k 26 then 4 else 0
/-- the model's numbers: fields and arrays -/
abbrev zMS : Type := (Nat → Int32) × (Nat → Nat → Int32)
def zmV (mad : Nat → Nat) (M : zMS) (k : Nat) : Value := bif (zml k).isSome then .ref (mad k) else .int (M.1 k)
def zms (M : zMS) (k : Nat) (x : Int32) : zMS := (fun j => if j = k then x else M.1 j, M.2)
def zma (M : zMS) (k i : Nat) (x : Int32) : zMS := (M.1, fun j => if j = k then upd (M.2 k) i x else M.2 j)
def WM (G : zG) (m : Nat) (mad : Nat → Nat) (M : zMS) (H : Heap) : Prop :=
  t_OB m (G.1.1 17) 72 (G.1.2 17) H (zmV mad M) ∧ ∀ k n, zml k = some n → H[mad k]? = some (vp_cell (G.2.1 (zmk k)) (n, .inl (M.2 k)))
def zmOK (A : Nat → Prop) (m : Nat) (mad : Nat → Nat) : Prop := A m ∧ (∀ k n, zml k = some n → A (mad k) ∧ mad k ≠ m) ∧ ∀ j k n n', zml j = some n → zml k = some n' → mad j = mad k → j = k
theorem WM.kept {G : zG} {m : Nat} {mad : Nat → Nat} {M : zMS} {H H1 : Heap} (h : WM G m mad M H) (h0 : H1[m]? = H[m]?) (h1 : ∀ k n, zml k = some n → H1[mad k]? = H[mad k]?) : WM G m mad M H1 := ⟨h.1.kept h0, fun k n hk => (h1 k n hk).trans (h.2 k n hk)⟩
variable {X : zX} {cc : ByteArray} {nL : Nat} {own : String} {ret : Option FieldType} {fr lo mc ms : Nat} {A : Nat → Prop} {G : zG} {uc us pc : Nat} {lv : List (Nat × Value)} {rest : List Value} {m : Nat} {mad : Nat → Nat} {M : zMS} {idx : Nat}
theorem zrv_M (cx : Cx X cc nL own ret fr lo mc ms A G) : zrv X A (WM G m mad M) m RX7 := fun H locs h hS => by
  obtain ⟨cell, g1, g2, g3, -⟩ := h.1
  exact ⟨cell, g1, by rw [g3]; rfl, by rw [g2]; exact (cx.K.1 17 (RX7, TX7, 72) rfl).2.1⟩
theorem zm_get (cx : Cx X cc nL own ret fr lo mc ms A G) (k : Nat) (hk : Nat.blt k 72 = true) (q : Cond.fieldLink own idx RX7 (TX7 k).2.1 (TX7 k).2.2.1 ∈ lw_all) (hT : (TX7 k).1 = RX7) {v : Value} (hv : zmV mad M k = v)
    (hdg : decode cc pc = .ok (.getfield idx, 3)) (kk : Z X nL A (WM G m mad M) uc us (pc + 3) lv (v :: rest)) : Z X nL A (WM G m mad M) uc us pc lv (.ref m :: rest) :=
  zg_get cx (ci := 17) (C := RX7) (T := TX7) (N := 72) rfl in_X7 (fun H h => h.1) k (Nat.le_of_ble_eq_true hk) q (fun x h => by rw [hT] at h; exact h) hv hdg kk
theorem zm_put (cx : Cx X cc nL own ret fr lo mc ms A G) (ok : zmOK A m mad) (k : Nat) (hk : Nat.blt k 72 = true) (q : Cond.fieldLink own idx RX7 (TX7 k).2.1 (TX7 k).2.2.1 ∈ lw_all) (hT : (TX7 k).1 = RX7) (hfin : (TX7 k).2.2.2 = false) (hd : parseFieldDescriptor (TX7 k).2.2.1 = some .int) (hs : zml k = none) {x : Int32}
    (hdg : decode cc pc = .ok (.putfield idx, 3)) (kk : Z X nL A (WM G m mad (zms M k x)) uc us (pc + 3) lv rest) : Z X nL A (WM G m mad M) uc us pc lv (.int x :: .ref m :: rest) := by
  refine zg_put cx (ci := 17) (C := RX7) (T := TX7) (N := 72) rfl in_X7 tyX7 tyX7_ok nmX7 (fun H h => h.1) ok.1 k (Nat.le_of_ble_eq_true hk) q (fun x h => by rw [hT] at h; exact h) hfin (ty := .int) hd rfl rfl (fun H H1 h h1 h2 h3 => ⟨h1.to (fun j _ => ?_), fun j n hj => ?_⟩) hdg kk
  · by_cases e : j = k
    · subst e
      simp [updV, zmV, zms, hs]
    · simp [updV, zmV, zms, e]
  · rw [h3 _ (ok.2.1 j n hj).2]
    exact h.2 j n hj
theorem zm_iald (cx : Cx X cc nL own ret fr lo mc ms A G) (k : Nat) {n : Nat} (hn : zml k = some n) (hz : zmk k = 0) {i : Int32} (hin : vp_in i n) (hdg : decode cc pc = .ok (.iaload, 1))
    (kk : Z X nL A (WM G m mad M) uc us (pc + 1) lv (.int (M.2 k i.toNatClampNeg) :: rest)) : Z X nL A (WM G m mad M) uc us pc lv (.int i :: .ref (mad k) :: rest) :=
  zg_iald cx (fun H h => by have := h.2 k n hn; rw [hz] at this; exact this) hin hdg kk
theorem zm_zald (cx : Cx X cc nL own ret fr lo mc ms A G) (k : Nat) {n : Nat} (hn : zml k = some n) (hz : zmk k = 4) {i : Int32} (hin : vp_in i n) (hdg : decode cc pc = .ok (.baload, 1))
    (kk : Z X nL A (WM G m mad M) uc us (pc + 1) lv (.int (M.2 k i.toNatClampNeg) :: rest)) : Z X nL A (WM G m mad M) uc us pc lv (.int i :: .ref (mad k) :: rest) :=
  zg_zald cx (fun H h => by have := h.2 k n hn; rw [hz] at this; exact this) hin hdg kk
theorem WM.upd {H H1 : Heap} (ok : zmOK A m mad) (h : WM G m mad M H) (k : Nat) {n i : Nat} {x : Int32} (hn : zml k = some n) (h1 : H1[mad k]? = some (vp_cell (G.2.1 (zmk k)) (n, .inl (upd (M.2 k) i x)))) (h3 : ∀ q : Nat, q ≠ mad k → H1[q]? = H[q]?) : WM G m mad (zma M k i x) H1 := by
  refine ⟨h.1.kept (h3 m (fun e => (ok.2.1 k n hn).2 e.symm)), fun j n' hj => ?_⟩
  by_cases e : j = k
  · subst e
    rw [hn] at hj
    cases hj
    simp only [zma, if_true]
    exact h1
  · simp only [zma, if_neg e]
    rw [h3 _ (fun e2 => e (ok.2.2 j k _ _ hj hn e2))]
    exact h.2 j n' hj
theorem zm_iast (cx : Cx X cc nL own ret fr lo mc ms A G) (ok : zmOK A m mad) (k : Nat) {n : Nat} (hn : zml k = some n) (hz : zmk k = 0) {i x : Int32} (hin : vp_in i n) (hdg : decode cc pc = .ok (.iastore, 1))
    (kk : Z X nL A (WM G m mad (zma M k i.toNatClampNeg x)) uc us (pc + 1) lv rest) : Z X nL A (WM G m mad M) uc us pc lv (.int x :: .int i :: .ref (mad k) :: rest) :=
  zg_iast cx (fun H h => by have := h.2 k n hn; rw [hz] at this; exact this) (ok.2.1 k n hn).1 hin (fun H H1 h h1 h2 h3 => WM.upd ok h k hn (by rw [hz]; exact h1) h3) hdg kk
theorem zm_zast (cx : Cx X cc nL own ret fr lo mc ms A G) (ok : zmOK A m mad) (k : Nat) {n : Nat} (hn : zml k = some n) (hz : zmk k = 4) {i x : Int32} (hx : x = 0 ∨ x = 1) (hin : vp_in i n) (hdg : decode cc pc = .ok (.bastore, 1))
    (kk : Z X nL A (WM G m mad (zma M k i.toNatClampNeg x)) uc us (pc + 1) lv rest) : Z X nL A (WM G m mad M) uc us pc lv (.int x :: .int i :: .ref (mad k) :: rest) :=
  zg_zast cx hx (fun H h => by have := h.2 k n hn; rw [hz] at this; exact this) (ok.2.1 k n hn).1 hin (fun H H1 h h1 h2 h3 => WM.upd ok h k hn (by rw [hz]; exact h1) h3) hdg kk
end ZM

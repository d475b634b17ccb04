/-! arraycopy, getClass, and a list opened and closed -/
set_option maxRecDepth 100000
section ZCO
variable {X : zX} {cc : ByteArray} {nL : Nat} {own : String} {ret : Option FieldType} {fr lo mc ms : Nat} {A : Nat → Prop} {G : zG} {uc us pc : Nat} {lv : List (Nat × Value)} {rest : List Value} {σ : zSt} {a a0 idx : Nat}
theorem z_nn (z : Int32) (hz : ¬ z < 0) : z.toInt = (z.toNatClampNeg : Int) := by
  have hz0 : (0 : Int) ≤ z.toInt := by
    have := Int32.not_lt.mp hz
    simpa using Int32.le_iff_toInt_le.mp this
  show z.toInt = ((z.toInt.toNat : Nat) : Int)
  omega
/-- System.arraycopy between rows of objects: a0's cell scr is an Object[] that holds f -/
theorem zg_copy {Om Om2 : Heap → Prop} (cx : Cx X cc nL own ret fr lo mc ms A G) {n0 n1 : Nat} {f g : Nat → Option Nat} {sp dp n : Int32}
    (q : Cond.methodLink own idx arraycopyName ∈ lw_all)
    (hsrc : ∀ H (locs : List Loc), Om H → va_S A (zS X).heap H locs → ∃ scr : Cell, H[a0]? = some scr ∧ (zS X).isArrayOf scr (.object "java/lang/Object") ∧ scr.vm ≠ .unknown ∧ n0 ≤ scr.slots.size ∧ ∀ j, j < n0 → scr.slots[j]? = some (va_rf (f j)))
    (ha : ∀ H, Om H → H[a]? = some (vp_cell (G.2.1 1) (n1, .inr (.inr (.inr (.inr g)))))) (hA : A a) (h1 : ¬ sp < 0) (h2 : ¬ dp < 0) (h3 : ¬ n < 0) (h4 : sp.toNatClampNeg + n.toNatClampNeg ≤ n0) (h5 : dp.toNatClampNeg + n.toNatClampNeg ≤ n1)
    (hel : ∀ H (locs : List Loc), Om H → va_S A (zS X).heap H locs → ∀ i : Nat, i < n.toNatClampNeg → ∀ y : Nat, f (sp.toNatClampNeg + i) = some y → va_Any "java/lang/Object" (zS X) H y)
    (hup : ∀ H H1 : Heap, Om H → H1[a]? = some (vp_cell (G.2.1 1) (n1, .inr (.inr (.inr (.inr (va_cpy f g sp.toNatClampNeg dp.toNatClampNeg n.toNatClampNeg)))))) → H1.size = H.size → (∀ q : Nat, q ≠ a → H1[q]? = H[q]?) → Om2 H1)
    (hfr : 1 ≤ fr) (hlo : (rest.map fun v => v.category).sum + 60 ≤ lo) (hdg : decode cc pc = .ok (.invokestatic idx, 3))
    (kk : Z X nL A Om2 uc us (pc + 3) lv rest) : Z X nL A Om uc us pc lv (.int n :: .int dp :: .ref a :: .int sp :: .ref a0 :: rest) := by
  intro H locs ls hO hS hl T hT St
  obtain ⟨scr, hc0, ⟨hs2, k0, hk0, cm0, hkk0⟩, hs3, hsz, hsl⟩ := hsrc H locs hO hS
  have hc1 := ha H hO
  obtain ⟨-, k1, hk1, cm1, hkk1⟩ := (cx.K.2 1 _ rfl).1 n1 (fun j => va_rf (g j))
  have hw : nativeFrameWords "java/lang/System" "arraycopy" 5 + 11 ≤ 60 := by decide
  obtain ⟨vm', X', step⟩ := St.arraycopy cx.exec cx.ow (cx.ts _ q) (cx.ts _ q273) (cx.ts _ q272) (cx.ts _ q96) (src := a0) (dst := a) (cs := scr) (cd := vp_cell (G.2.1 1) (n1, .inr (.inr (.inr (.inr g))))) (srcPos := sp) (destPos := dp) (n := n) (by rw [hT]; exact hc0) (by rw [hT]; exact hc1)
    hs2 (fun _ h => by cases h) hs3 (fun h => by cases h) hk0 hk1 hkk0 hkk1 rfl h1 h2 h3
    (by rw [z_nn sp h1, z_nn n h3]; omega)
    (by rw [z_nn dp h2, z_nn n h3]; show ¬ _ > ((arrV (G.2.1 1) n1 (fun j => va_rf (g j))).slots.size : Int); rw [arrV_size]; omega)
    (fun vm₁ hal i hi => by
      have e : scr.slots.getD (sp.toNatClampNeg + i) .null = va_rf (f (sp.toNatClampNeg + i)) := by
        rw [Array.getD_eq_getD_getElem?, hsl _ (by omega)]
        rfl
      rw [e]
      cases hy : f (sp.toNatClampNeg + i) with
      | none => exact ⟨rfl, trivial⟩
      | some y =>
        obtain ⟨cellV, g1, g2, ⟨kC, hkC⟩, hasg⟩ := hel H locs hO hS i hi y hy
        obtain ⟨kA, comp, r1, r2, r3, -⟩ := (cx.K.2 1 _ rfl).2
        cases hk1.symm.trans r1
        cases hkk1.symm.trans r2
        obtain ⟨kE, hkE, -⟩ := Vm.findClass_spec r3
        obtain ⟨kC', hkC', -⟩ := hal.2.2 _ _ hkC
        obtain ⟨kE', hkE', -⟩ := hal.2.2 _ _ hkE
        refine ⟨rfl, cellV, (show T.heap[y]? = some cellV by rw [hT]; exact g1), (fun q h => by rw [h] at g2; cases g2), ⟨kC', hkC'⟩, ?_, ?_⟩
        · exact ⟨kE', hkE'⟩
        · show vm₁.assignable _ _ = true
          rw [hal.assignable]
          exact hasg _ r3)
    (g := F0 (zM X) pc ls (.int n :: .int dp :: .ref a :: .int sp :: .ref a0 :: rest)) rfl (by rw [cx.maxL]; exact hl.1.1) (rest := rest) rfl (by rw [cx.code]; exact hdg) (Nat.le_trans hfr cx.hfr) (by show 2 * 0 + _ + _ ≤ _; have := cx.hlo; omega)
  have e1 : copied scr (vp_cell (G.2.1 1) (n1, .inr (.inr (.inr (.inr g))))) sp dp n = vp_cell (G.2.1 1) (n1, .inr (.inr (.inr (.inr (va_cpy f g sp.toNatClampNeg dp.toNatClampNeg n.toNatClampNeg))))) := by
    rw [vp_cell_q, vp_cell_q]
    exact va_copiedX (fun z => va_rf z) scr (G.2.1 1) f g hsl h4
  rw [e1] at X' step
  have hla : a < H.size := (Array.getElem?_eq_some_iff.mp hc1).1
  have hheap : ((T.setVm vm').setCell a (vp_cell (G.2.1 1) (n1, .inr (.inr (.inr (.inr (va_cpy f g sp.toNatClampNeg dp.toNatClampNeg n.toNatClampNeg))))))).heap = H.setIfInBounds a (vp_cell (G.2.1 1) (n1, .inr (.inr (.inr (.inr (va_cpy f g sp.toNatClampNeg dp.toNatClampNeg n.toNatClampNeg)))))) := by rw [← hT]; rfl
  have oq : ∀ q : Nat, q ≠ a → (H.setIfInBounds a (vp_cell (G.2.1 1) (n1, .inr (.inr (.inr (.inr (va_cpy f g sp.toNatClampNeg dp.toNatClampNeg n.toNatClampNeg)))))))[q]? = H[q]? := fun q hq => by simp [Array.getElem?_setIfInBounds, Ne.symm hq]
  obtain ⟨t, a1, b1⟩ := kk _ _ ls (hup H _ hO (show (H.setIfInBounds a _)[a]? = some _ by simp [Array.getElem?_setIfInBounds, hla]) (by simp) oq) ⟨by simp; exact hS.1, fun q g1 g2 => by
      rw [oq q (fun e => g2 (by rw [e]; exact hA))]
      exact hS.2.1 q g1 g2, fun q hq => by
      rcases List.mem_append.mp hq with h | h
      · exact hS.2.2 q h
      · obtain ⟨z, -, hz⟩ := List.mem_map.mp h
        rw [← hz]
        exact hA⟩ hl _ hheap X'
  exact ⟨t, step t a1, b1⟩
/-- arraycopy in the store: from a row of objects, or nothing from one of the two empty arrays -/
def zac (σ : zSt) (a0 : Nat) (sp : Int32) (a : Nat) (dp n : Int32) (K : zSt → Prop) : Prop :=
  ∃ n1 g, σ.2 a = some (zra_ 1 n1 g) ∧ ¬ sp < 0 ∧ ¬ dp < 0 ∧ ¬ n < 0 ∧ dp.toNatClampNeg + n.toNatClampNeg ≤ n1 ∧
    ((∃ n0 f, σ.2 a0 = some (zra_ 1 n0 f) ∧ sp.toNatClampNeg + n.toNatClampNeg ≤ n0 ∧ K (zup_ σ a (zra_ 1 n1 (va_cpy f g sp.toNatClampNeg dp.toNatClampNeg n.toNatClampNeg)))) ∨
     ((a0 = σ.1 256 ∨ a0 = σ.1 257) ∧ sp.toNatClampNeg + n.toNatClampNeg = 0 ∧ K (zup_ σ a (zra_ 1 n1 g))))
theorem zc_copy (cx : Cx X cc nL own ret fr lo mc ms A G) {K : zSt → Prop} {sp dp n : Int32} (h : zac σ a0 sp a dp n K) (q : Cond.methodLink own idx arraycopyName ∈ lw_all) (hfr : 1 ≤ fr) (hlo : (rest.map fun v => v.category).sum + 60 ≤ lo) (hdg : decode cc pc = .ok (.invokestatic idx, 3))
    (kk : ∀ σ', K σ' → Z X nL A (WC G A σ') uc us (pc + 3) lv rest) : Z X nL A (WC G A σ) uc us pc lv (.int n :: .int dp :: .ref a :: .int sp :: .ref a0 :: rest) := by
  obtain ⟨n1, g, e, h1, h2, h3, h5, h⟩ := h
  by_cases hA : A a
  · rcases h with ⟨n0, f, e0, h4, hK⟩ | ⟨e0, h4, hK⟩
    · refine zg_copy (n0 := n0) (f := f) cx q (fun H locs hO hS => ?_) (fun H hO => hO.2.2.1 a _ _ e) hA h1 h2 h3 h4 h5 (fun H locs hO hS i hi y hy => ?_) (fun H H1 hO g1 g2 g3 => ?_) hfr hlo hdg (kk _ hK)
      · exact ⟨_, hO.2.2.1 a0 _ _ e0, (cx.K.2 1 _ rfl).1 n0 (fun j => va_rf (f j)), (fun h => by cases h), Nat.le_of_eq (arrV_size _ _ _).symm, fun j hj => by rw [vp_cell_q, arrV_read _ _ hj]⟩
      · exact zany cx (hO.2.2.2.2.2.2 a0 n0 f e0 _ (by omega) y hy) hO hS
      · refine hO.write e (by intro xs h; cases h) (by intro xs h; cases h) (fun _ _ h => by cases h) g3 (fun _ _ h => by cases h) (fun _ _ h => by cases h; exact g1) (fun n' f' h => ?_)
        cases h
        intro j hj y hy
        unfold va_cpy at hy
        split at hy
        next hc => exact hO.2.2.2.2.2.2 a0 n0 f e0 _ (by omega) y hy
        next => exact hO.2.2.2.2.2.2 a n1 g e j hj y hy
    · have hn0 : n.toNatClampNeg = 0 := by omega
      have eg : va_cpy (fun _ => none) g sp.toNatClampNeg dp.toNatClampNeg n.toNatClampNeg = g := by
        funext k
        unfold va_cpy
        rw [hn0, if_neg (by omega)]
      refine zg_copy (n0 := 0) (f := fun _ => none) cx q (fun H locs hO hS => ?_) (fun H hO => hO.2.2.1 a _ _ e) hA h1 h2 h3 (by omega) h5 (fun H locs hO hS i hi y hy => by cases hy) (fun H H1 hO g1 g2 g3 => ?_) hfr hlo hdg (kk _ hK)
      · have hT : va_T (.object "java/lang/Object") a0 0 (fun _ => .null) A (zS X) (zS X).heap := by
          rw [hO.1] at e0
          rcases e0 with e | e <;> rw [e]
          · exact cx.kw.2.2.2.2.2.2.2.1
          · exact cx.kw.2.2.2.2.2.2.2.2.1
        obtain ⟨scr, g1, g2, g3, g4, -⟩ := hT.kept hS.2.1
        exact ⟨scr, g1, g2, g3, g4, fun j hj => absurd hj (Nat.not_lt_zero j)⟩
      · rw [eg] at g1
        exact hO.write e (by intro xs h; cases h) (by intro xs h; cases h) (fun _ _ h => by cases h) g3 (fun _ _ h => by cases h) (fun _ _ h => by cases h; exact g1) (fun n' f' h => by cases h; exact hO.2.2.2.2.2.2 a n1 g e)
  · exact fun H locs ls hO => absurd (hO.2.2.2.2.1 a _ e) hA
/-- the class of an Object[] (kind 1), or of one of the two empty ones -/
theorem zc_getClassA (cx : Cx X cc nL own ret fr lo mc ms A G) (h : (∃ n f, σ.2 a = some (zra_ 1 n f)) ∨ a = σ.1 256 ∨ a = σ.1 257) (q : Cond.methodLink own idx ⟨"java/lang/Object", "getClass", "()Ljava/lang/Class;"⟩ ∈ lw_all) (hfr : 1 ≤ fr) (hlo : (rest.map fun v => v.category).sum + 14 ≤ lo) (hdg : decode cc pc = .ok (.invokevirtual idx, 3))
    (kk : Z X nL A (WC G A σ) uc us (pc + 3) lv (.ref (σ.1 259) :: rest)) : Z X nL A (WC G A σ) uc us pc lv (.ref a :: rest) := by
  intro H locs ls hO hS hl
  have k2 := kk H locs ls hO hS hl
  have hr : ∃ cell : Cell, H[a]? = some cell ∧ cell.vm.isStatics = false ∧ (zS X).vm.findClass "[Ljava/lang/Object;" = some cell.cls := by
    rcases h with ⟨n, f, e⟩ | h
    · obtain ⟨_, _, _, _, _, h4⟩ := (cx.K.2 1 _ rfl).2
      exact ⟨_, hO.2.2.1 a _ _ e, rfl, h4⟩
    · rw [hO.1] at h
      rcases h with e | e <;> rw [e]
      · exact va_Orecv cx.kw.2.2.2.2.2.2.2.2.2.2.2.2.2.2.2.2.2.1 hS
      · exact va_Orecv cx.kw.2.2.2.2.2.2.2.2.2.2.2.2.2.2.2.2.2.2.1 hS
  rw [hO.1] at k2
  exact va_getC cx.exec cx.code (by rw [cx.maxL]; exact hl.1.1.symm) cx.ow (cx.ts _ q) (va_Nw.use rfl (cx.nw q731 rfl)) (cx.ts _ q2154) (cx.ts _ q237) (cx.ts _ q261) cx.kw.2.2.2.2.2.2.2.2.2.2.2.2.2.2.1 hr (Nat.le_trans hfr cx.hfr) (Nat.le_trans hlo cx.hlo) hdg k2
/-- a list's class, asked through Collection -/
theorem zc_getClassL {count : Nat} (cx : Cx X cc nL own ret fr lo mc ms A G) (h : zrl σ a) (q : Cond.methodLink own idx ⟨"java/util/Collection", "getClass", "()Ljava/lang/Class;"⟩ ∈ lw_all) (hfr : 1 ≤ fr) (hlo : (rest.map fun v => v.category).sum + 14 ≤ lo) (hdg : decode cc pc = .ok (.invokeinterface idx count, 5))
    (kk : Z X nL A (WC G A σ) uc us (pc + 5) lv (.ref (σ.1 258) :: rest)) : Z X nL A (WC G A σ) uc us pc lv (.ref a :: rest) := by
  intro H locs ls hO hS hl
  have k2 := kk H locs ls hO hS hl
  obtain ⟨cell, g1, g2, g3⟩ := zrv_L cx h H locs hO hS
  obtain ⟨c0, k0, h1, h2, h3⟩ := cx.kw.2.2.2.2.2.2.2.2.2.2.2.2.2.1
  cases h1.symm.trans g3
  rw [hO.1] at k2
  have hsel : (Cond.selects "java/util/ArrayList" ⟨"java/util/Collection", "getClass", "()Ljava/lang/Class;"⟩ gcN).before (zAr X) (zS X) = true := by
    have f1 := cx.ts _ q260
    obtain ⟨_, _, m1, -, -, -, i1, i2⟩ := Cond.interfaceMethod_spec (va_Nw.use (A := zAr X) rfl (cx.nw q730 rfl))
    have e : (zS X).methodFound? "java/util/Collection" "getClass" "()Ljava/lang/Class;" = (zS X).methodFound? "java/lang/Object" "getClass" "()Ljava/lang/Class;" := by
      rw [i1, State.methodFound?_of_named i2 (by decide)]
    have e2 : (Cond.selects "java/util/ArrayList" ⟨"java/util/Collection", "getClass", "()Ljava/lang/Class;"⟩ gcN).before (zAr X) (zS X) = (Cond.selects "java/util/ArrayList" ⟨"java/lang/Object", "getClass", "()Ljava/lang/Class;"⟩ gcN).before (zAr X) (zS X) := by
      simp only [Cond.before, Cond.holds, Cond.value, e]
    rw [e2]; exact f1
  intro T hT St
  obtain ⟨vm', X', st⟩ := St.getClassOfI cx.exec cx.ow (cx.ts _ q) (va_Nw.use rfl (cx.nw q731 rfl)) (va_Nw.use rfl (cx.nw q730 rfl)) hsel (cx.ts _ q237) (va_Nw.use rfl (cx.nw q733 rfl)) (va_Nw.use rfl (cx.nw q732 rfl)) (va_Nw.use rfl (cx.nw q651 rfl)) (cx.ts _ q261) (by decide) (by decide) rfl rfl h1 h2 ⟨cell, by rw [hT]; exact g1, rfl, g2⟩ h3 (g := F0 (zM X) pc ls (.ref a :: rest)) rfl (by rw [cx.maxL]; exact hl.1.1) rfl (by rw [cx.code]; exact hdg) (Nat.le_trans hfr cx.hfr) (by show 2 * 0 + _ + _ ≤ _; have hw : nativeFrameWords "java/lang/Object" "getClass" 1 = 3 := (by decide); have := cx.hlo; omega)
  obtain ⟨t, a1, b1⟩ := k2 (T.setVm vm') hT X'
  exact ⟨t, st t a1, b1⟩
end ZCO

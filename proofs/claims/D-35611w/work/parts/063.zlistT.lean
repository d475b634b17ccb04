/-! WHAT A LIST'S METHODS DO, over the store of lists -/
def T_size (σ : zSt) (a : Nat) (K : Int32 → Prop) : Prop := match σ.2 a with
  | some (.inr (.inr xs)) => K (nI xs.length)
  | _ => False
def T_get (σ : zSt) (a : Nat) (i : Int32) (K : Nat → Prop) : Prop := match σ.2 a with
  | some (.inr (.inr xs)) => ¬ i < 0 ∧ match xs[i.toNatClampNeg]? with
    | some y => K y
    | none => False
  | _ => False
def T_add (σ : zSt) (a v : Nat) (K : Int32 → zSt → Prop) : Prop := match σ.2 a with
  | some (.inr (.inr xs)) => zel σ v ∧ xs.length < 32 ∧ K 1 (zup_ σ a (zlt (xs ++ [v])))
  | _ => False
def T_rem (σ : zSt) (a : Nat) (i : Int32) (K : Nat → zSt → Prop) : Prop := match σ.2 a with
  | some (.inr (.inr xs)) => ¬ i < 0 ∧ match xs[i.toNatClampNeg]? with
    | some y => K y (zup_ σ a (zlt (xs.eraseIdx i.toNatClampNeg)))
    | none => False
  | _ => False
def T_remO (σ : zSt) (a v : Nat) (K : Int32 → zSt → Prop) : Prop := match σ.2 a with
  | some (.inr (.inr xs)) => zrq σ v ∧ K (if v ∈ xs then 1 else 0) (zup_ σ a (zlt (xs.erase v)))
  | _ => False
def T_clear (σ : zSt) (a : Nat) (K : zSt → Prop) : Prop := match σ.2 a with
  | some (.inr (.inr _)) => K (zup_ σ a (zlt []))
  | _ => False
def T_toArray (σ : zSt) (a : Nat) (K : Nat → zSt → Prop) : Prop := match σ.2 a with
  | some (.inr (.inr xs)) => xs.length < 32 ∧ ∀ q, σ.2 q = none → q ≠ σ.1 256 → q ≠ σ.1 257 → K q (zup_ σ q (zra_ 1 xs.length (fun i => xs[i]?)))
  | _ => False
def T_addAll (σ : zSt) (a b : Nat) (K : Int32 → zSt → Prop) : Prop := match σ.2 a, σ.2 b with
  | some (.inr (.inr xs)), some (.inr (.inr ys)) => a ≠ b ∧ xs.length < 32 ∧ ys.length < 32 ∧ K (if ys = [] then 0 else 1) (zup_ σ a (zlt (xs ++ ys)))
  | _, _ => False
def T_init (σ : zSt) (a : Nat) (K : zSt → Prop) : Prop := σ.2 a = some (zob 15 [.int 0, .null, .int 0]) ∧ K (zup_ σ a (zlt []))
def T_initC (σ : zSt) (a b : Nat) (K : zSt → Prop) : Prop := σ.2 a = some (zob 15 [.int 0, .null, .int 0]) ∧ match σ.2 b with
  | some (.inr (.inr ys)) => ys.length < 32 ∧ K (zup_ σ a (zlt ys))
  | _ => False
section ZLT
variable {G : zG} {A : Nat → Prop} {σ σ2 : zSt} {H : Heap} {a : Nat} {xs : List Nat}
/-- σ2 is σ with the list a unfolded, with the elements xs -/
def zRaw (A : Nat → Prop) (σ σ2 : zSt) (a : Nat) (xs : List Nat) : Prop := ∃ (mcn : Int32) (b b0 : Nat), σ2.1 = σ.1 ∧ σ2.2 a = some (zob 15 [.int mcn, .ref b, .int (nI xs.length)]) ∧ b ≠ a ∧ b0 ≠ a ∧ σ.2 b = none ∧ σ.2 b0 = none ∧
  (∀ q, q ≠ a → q ≠ b → q ≠ b0 → σ2.2 q = σ.2 q) ∧ (∀ ci fs, σ2.2 b0 ≠ some (zob ci fs)) ∧ (∀ ys, σ2.2 b0 ≠ some (zlt ys)) ∧
  ((∃ n f, σ2.2 b = some (zra_ 1 n f) ∧ xs.length ≤ n ∧ n < 2 ^ 31 ∧ (∀ i, i < n → f i = xs[i]?) ∧ b ≠ σ.1 256 ∧ b ≠ σ.1 257) ∨ (xs = [] ∧ (b = σ.1 256 ∨ b = σ.1 257) ∧ σ2.2 b = none ∧ ¬ A b))
theorem zRaw.of {U : State} (kw : KW G A U) (h : WC G A σ U.heap) (ha : σ.2 a = some (zlt xs)) : ∃ σ2, zRaw A σ σ2 a xs ∧ WC G A σ2 U.heap := by
  obtain ⟨mcn, b, n, f, h1, h2, h3, h4⟩ := h.unf ha
  have hAc : ∀ c, (c = σ.1 256 ∨ c = σ.1 257) → ¬ A c := by
    intro c hc
    rw [h.1] at hc
    rcases hc with e | e <;> rw [e]
    · exact kw.nA.1
    · exact kw.nA.2
  rcases h4 with ⟨hA, hb, hW⟩ | ⟨hb, hn, hW⟩
  · have hba : b ≠ a := fun e => by rw [e, ha] at hb; cases hb
    refine ⟨zup_ (zup_ σ b (zra_ 1 n f)) a (zob 15 [.int mcn, .ref b, .int (nI xs.length)]), ⟨mcn, b, b, rfl, zset_eq, hba, hba, hb, hb, fun q q1 q2 _ => ?_, ?_, ?_, Or.inl ⟨n, f, ?_, h1, h2, h3, fun e => hAc b (Or.inl e) hA, fun e => hAc b (Or.inr e) hA⟩⟩, hW⟩
    · show zset (zset σ.2 b _) a _ q = _
      rw [zset_ne q1, zset_ne q2]
    · intro ci fs
      show zset (zset σ.2 b _) a _ b ≠ _
      rw [zset_ne hba, zset_eq]
      intro e; cases e
    · intro ys
      show zset (zset σ.2 b _) a _ b ≠ _
      rw [zset_ne hba, zset_eq]
      intro e; cases e
    · show zset (zset σ.2 b _) a _ b = _
      rw [zset_ne hba, zset_eq]
  · have hnA := hAc b hb
    have hbn : σ.2 b = none := by
      cases e : σ.2 b with
      | none => rfl
      | some o => exact absurd (h.2.2.2.2.1 b o e) hnA
    have hba : b ≠ a := fun e => by rw [e, ha] at hbn; cases hbn
    have hx : xs = [] := List.eq_nil_of_length_eq_zero (by omega)
    have h2b : zset σ.2 a (zob 15 [.int mcn, .ref b, .int (nI xs.length)]) b = none := by rw [zset_ne hba]; exact hbn
    refine ⟨zup_ σ a (zob 15 [.int mcn, .ref b, .int (nI xs.length)]), ⟨mcn, b, b, rfl, zset_eq, hba, hba, hbn, hbn, fun q q1 _ _ => zset_ne q1, fun ci fs e => ?_, fun ys e => ?_, Or.inr ⟨hx, hb, h2b, hnA⟩⟩, hW⟩
    · rw [show (zup_ σ a _).2 b = none from h2b] at e; cases e
    · rw [show (zup_ σ a _).2 b = none from h2b] at e; cases e
theorem zRaw.close (h : zRaw A σ σ2 a xs) (hW : WC G A σ2 H) : WC G A (zup_ σ a (zlt xs)) H := by
  obtain ⟨mcn, b, b0, h1, h2, h3, h4, h5, h6, h7, h8, h9, h10⟩ := h
  rcases h10 with ⟨n, f, g1, g2, g3, g4, g5, g6⟩ | ⟨rfl, g1, g2, g3⟩
  · have w1 := hW.close h2 g1 g2 g3 g4 (by rw [h1]; exact ⟨g5, g6⟩)
    by_cases e0 : b0 = b
    · have w2 := w1.ext (τ := zset σ.2 a (zlt xs)) (fun q => ?_)
      · rw [h1] at w2; exact w2
      · show zset (zdel σ2.2 b) a _ q = zset σ.2 a _ q
        by_cases q1 : q = a
        · rw [q1, zset_eq, zset_eq]
        · rw [zset_ne q1, zset_ne q1]
          by_cases q2 : q = b
          · rw [q2, zdel_eq, h5]
          · rw [zdel_ne q2, h7 q q1 q2 (by rw [e0]; exact q2)]
    · have w2 := w1.drop (b := b0) (fun ci fs => by
        show zset (zdel σ2.2 b) a _ b0 ≠ _
        rw [zset_ne h4, zdel_ne e0]; exact h8 ci fs)
      have w3 := w2.ext (τ := zset σ.2 a (zlt xs)) (fun q => ?_)
      · rw [h1] at w3; exact w3
      · show zdel (zset (zdel σ2.2 b) a _) b0 q = zset σ.2 a _ q
        by_cases q3 : q = b0
        · rw [q3, zdel_eq, zset_ne h4, h6]
        · rw [zdel_ne q3]
          by_cases q1 : q = a
          · rw [q1, zset_eq, zset_eq]
          · rw [zset_ne q1, zset_ne q1]
            by_cases q2 : q = b
            · rw [q2, zdel_eq, h5]
            · rw [zdel_ne q2, h7 q q1 q2 q3]
  · have w1 := hW.close0 (b := b) h2 (by rw [h1]; exact g1) g3
    have w2 := w1.drop (b := b0) (fun ci fs => by
        show zset σ2.2 a _ b0 ≠ _
        rw [zset_ne h4]; exact h8 ci fs)
    have w3 := w2.ext (τ := zset σ.2 a (zlt [])) (fun q => ?_)
    · rw [h1] at w3; exact w3
    · show zdel (zset σ2.2 a _) b0 q = zset σ.2 a _ q
      by_cases q3 : q = b0
      · rw [q3, zdel_eq, zset_ne h4, h6]
      · rw [zdel_ne q3]
        by_cases q1 : q = a
        · rw [q1, zset_eq, zset_eq]
        · rw [zset_ne q1, zset_ne q1]
          by_cases q2 : q = b
          · rw [q2, g2, h5]
          · exact h7 q q1 q2 q3
theorem zset_self {τ : Nat → Option zO} {o : zO} (h : τ a = some o) : zset τ a o = τ := by
  funext q
  by_cases e : q = a
  · rw [e, zset_eq, h]
  · rw [zset_ne e]
theorem zRaw.back (h : zRaw A σ σ2 a xs) (ha : σ.2 a = some (zlt xs)) (hW : WC G A σ2 H) : WC G A σ H := by
  have := h.close hW
  rw [show zup_ σ a (zlt xs) = σ from by rw [zup_, zset_self ha]] at this
  exact this
variable {l : Launch} {y : MethodName} {cc : ByteArray} {maxL : Nat} {ret : Option FieldType} {fr lo mc ms : Nat} {av : List Value}
/-- a list's method that leaves it as it is -/
theorem zliftQ {R : Type} {enc : R → Option Value} {K : R → Prop} (ha : σ.2 a = some (zlt xs))
    (hC : ∀ σ1, zRaw A σ σ1 a xs → Con l y cc maxL ret fr lo mc ms A G av (WC G A σ1) (fun v H => ∃ r, v = enc r ∧ K r ∧ WC G A σ1 H) zxN) :
    Con l y cc maxL ret fr lo mc ms A G av (WC G A σ) (fun v H => ∃ r, v = enc r ∧ K r ∧ WC G A σ H) zxN :=
  Con.conv (ι := { σ1 : zSt // zRaw A σ σ1 a xs }) (Omi := fun i => WC G A i.1) (fun U kw h => by obtain ⟨σ1, h1, h2⟩ := zRaw.of kw h ha; exact ⟨⟨σ1, h1⟩, h2⟩)
    (fun i => hC i.1 i.2) (fun i v H h => by obtain ⟨r, h1, h2, h3⟩ := h; exact ⟨r, h1, h2, i.2.back ha h3⟩) (fun i E H h => h)
/-- a list's method that changes it -/
theorem zliftP {R : Type} {enc : R → Option Value} {K : R → zSt → Prop} (ha : σ.2 a = some (zlt xs))
    (hC : ∀ σ1, zRaw A σ σ1 a xs → Con l y cc maxL ret fr lo mc ms A G av (WC G A σ1) (fun v H => ∃ r σ2, v = enc r ∧ (∃ ys, zRaw A σ σ2 a ys ∧ K r (zup_ σ a (zlt ys))) ∧ WC G A σ2 H) zxN) :
    Con l y cc maxL ret fr lo mc ms A G av (WC G A σ) (fun v H => ∃ r σ', v = enc r ∧ K r σ' ∧ WC G A σ' H) zxN :=
  Con.conv (ι := { σ1 : zSt // zRaw A σ σ1 a xs }) (Omi := fun i => WC G A i.1) (fun U kw h => by obtain ⟨σ1, h1, h2⟩ := zRaw.of kw h ha; exact ⟨⟨σ1, h1⟩, h2⟩)
    (fun i => hC i.1 i.2) (fun i v H h => by obtain ⟨r, σ2, h1, ⟨ys, h2, h3⟩, h4⟩ := h; exact ⟨r, _, h1, h3, h2.close h4⟩) (fun i E H h => h)
end ZLT

/-! A LIST unfolded and folded: as one thing of the store, or as its object and its row -/
set_option maxRecDepth 100000
section ZLI
variable {G : zG} {A : Nat → Prop} {σ : zSt} {H : Heap} {a b : Nat}
theorem zdel_ne {τ : Nat → Option zO} {a b : Nat} (h : b ≠ a) : zdel τ a b = τ b := by simp [zdel, h]
theorem zdel_eq {τ : Nat → Option zO} {a : Nat} : zdel τ a a = none := by simp [zdel]
theorem zset_some {τ : Nat → Option zO} {a b : Nat} {o x : zO} (e : zset τ a o b = some x) : (b = a ∧ x = o) ∨ (b ≠ a ∧ τ b = some x) := by
  by_cases hb : b = a
  · subst hb; rw [zset_eq] at e; exact Or.inl ⟨rfl, (Option.some.inj e).symm⟩
  · rw [zset_ne hb] at e; exact Or.inr ⟨hb, e⟩
theorem zdel_some {τ : Nat → Option zO} {a b : Nat} {x : zO} (e : zdel τ a b = some x) : b ≠ a ∧ τ b = some x := by
  by_cases hb : b = a
  · subst hb; rw [zdel_eq] at e; cases e
  · rw [zdel_ne hb] at e; exact ⟨hb, e⟩
/-- an array is forgotten -/
theorem WC.drop (h : WC G A σ H) (hno : ∀ ci fs, σ.2 b ≠ some (zob ci fs)) : WC G A (σ.1, zdel σ.2 b) H := by
  obtain ⟨h0, h1, h2, ⟨bk, h3⟩, h4, h5, h6⟩ := h
  have hz : ∀ y, zel σ y → zel (σ.1, zdel σ.2 b) y := by
    rintro y (⟨ci, fs, e, h15⟩ | h)
    · by_cases e2 : y = b
      · subst e2; exact absurd e (hno ci fs)
      · exact Or.inl ⟨ci, fs, by show zdel σ.2 b y = _; rw [zdel_ne e2]; exact e, h15⟩
    · exact Or.inr h
  refine ⟨h0, fun a ci fs e => h1 a ci fs (zdel_some e).2, fun a kd x e => h2 a kd x (zdel_some e).2, ⟨bk, fun a xs e => ?_⟩, fun a o e => h4 a o (zdel_some e).2, fun a xs e y hy => hz y (h5 a xs (zdel_some e).2 y hy), fun a n f e i hi y hy => hz y (h6 a n f (zdel_some e).2 i hi y hy)⟩
  obtain ⟨mcn, n, f, g1, g2, g3, g4, g5⟩ := h3 a xs (zdel_some e).2
  refine ⟨mcn, n, f, g1, g2, g3, g4, ?_⟩
  rcases g5 with ⟨k1, k2, k3, k4⟩ | k
  · refine Or.inl ⟨k1, k2, ?_, fun b' ys e4 e5 => k4 b' ys (zdel_some e4).2 e5⟩
    show zdel σ.2 b (bk a) = none
    unfold zdel
    split
    · rfl
    · exact k3
  · exact Or.inr k
theorem zel_close {ys : List Nat} {o : List Value} {y : Nat} (h : zel (zup_ σ a (zob 15 o)) y) : zel (zup_ σ a (zlt ys)) y := by
  rcases h with ⟨ci, fs, e, h15⟩ | h
  · rcases zset_some e with ⟨-, e2⟩ | ⟨h2, e2⟩
    · cases e2; exact absurd rfl h15
    · exact Or.inl ⟨ci, fs, by show zset σ.2 a _ y = _; rw [zset_ne h2]; exact e2, h15⟩
  · exact Or.inr h
theorem zel_ne {o : List Value} {y : Nat} (ha : σ.2 a = some (zob 15 o)) (h : zel σ y) : (∃ ci fs, σ.2 y = some (zob ci fs) ∧ ci ≠ 15 ∧ y ≠ a) ∨ ∃ k, k < 256 ∧ y = σ.1 k := by
  rcases h with ⟨ci, fs, e, h15⟩ | h
  · refine Or.inl ⟨ci, fs, e, h15, fun e2 => ?_⟩
    rw [e2, ha] at e
    cases e
    exact h15 rfl
  · exact Or.inr h
/-- an ArrayList's object and its row become a list -/
theorem WC.close {mcn : Int32} {n : Nat} {f : Nat → Option Nat} {xs : List Nat} (h : WC G A σ H) (ha : σ.2 a = some (zob 15 [.int mcn, .ref b, .int (nI xs.length)])) (hb : σ.2 b = some (zra_ 1 n f)) (h1 : xs.length ≤ n) (h2 : n < 2 ^ 31) (h3 : ∀ i, i < n → f i = xs[i]?) (hb0 : b ≠ σ.1 256 ∧ b ≠ σ.1 257) : WC G A (σ.1, zset (zdel σ.2 b) a (zlt xs)) H := by
  have hab : a ≠ b := fun e => by rw [e, hb] at ha; cases ha
  obtain ⟨g0, g1, g2, ⟨bk, g3⟩, g4, g5, g6⟩ := h
  have hz : ∀ y, zel σ y → zel (σ.1, zset (zdel σ.2 b) a (zlt xs)) y := by
    intro y hy
    rcases zel_ne ha hy with ⟨ci, fs, e, h15, hne⟩ | h
    · refine Or.inl ⟨ci, fs, ?_, h15⟩
      show zset (zdel σ.2 b) a _ y = _
      rw [zset_ne hne, zdel_ne (fun e2 => by rw [e2, hb] at e; cases e)]
      exact e
    · exact Or.inr h
  have key : ∀ {c : Nat} {x : zO}, zset (zdel σ.2 b) a (zlt xs) c = some x → (c = a ∧ x = zlt xs) ∨ (c ≠ a ∧ c ≠ b ∧ σ.2 c = some x) := by
    intro c x e
    rcases zset_some e with h | ⟨h, e2⟩
    · exact Or.inl h
    · obtain ⟨h5, h6⟩ := zdel_some e2
      exact Or.inr ⟨h, h5, h6⟩
  obtain ⟨bk2, hbk⟩ : ∃ g : Nat → Nat, g = fun c => if c = a then b else bk c := ⟨_, rfl⟩
  have bk_a : bk2 a = b := by rw [hbk]; simp
  have bk_n : ∀ c, c ≠ a → bk2 c = bk c := fun c hc => by rw [hbk]; simp [hc]
  refine ⟨g0, fun c ci fs e => ?_, fun c kd x e => ?_, ⟨bk2, fun c ys e => ?_⟩, fun c o e => ?_, fun c ys e y hy => ?_, fun c n' f' e i hi y hy => ?_⟩
  · rcases key e with ⟨-, e2⟩ | ⟨-, -, e2⟩
    · cases e2
    · exact g1 c ci fs e2
  · rcases key e with ⟨-, e2⟩ | ⟨-, -, e2⟩
    · cases e2
    · exact g2 c kd x e2
  · rcases key e with ⟨rfl, e2⟩ | ⟨hca, hcb, e2⟩
    · cases e2
      obtain ⟨r, q1, q2, q3⟩ := g1 _ _ _ ha
      cases q1
      refine ⟨mcn, n, f, by rw [bk_a]; exact q3, h1, h2, h3, Or.inl ?_⟩
      rw [bk_a]
      refine ⟨g2 b 1 _ hb, g4 b _ hb, ?_, fun c' ys' e4 e5 => ?_⟩
      · show zset (zdel σ.2 b) c _ b = none
        rw [zset_ne (Ne.symm hab), zdel_eq]
      · rcases key e4 with ⟨h, -⟩ | ⟨q4, q5, e6⟩
        · exact h
        · rw [bk_n _ q4] at e5
          obtain ⟨_, _, _, _, _, _, _, q6⟩ := g3 c' ys' e6
          rcases q6 with ⟨-, -, q7, -⟩ | ⟨-, q8⟩
          · rw [e5, hb] at q7; cases q7
          · rw [e5] at q8; rcases q8 with q8 | q8
            · exact absurd q8 hb0.1
            · exact absurd q8 hb0.2
    · obtain ⟨mcn', n', f', q1, q2, q3, q4, q5⟩ := g3 c ys e2
      refine ⟨mcn', n', f', by rw [bk_n _ hca]; exact q1, q2, q3, q4, ?_⟩
      rw [bk_n _ hca]
      rcases q5 with ⟨k1, k2, k3, k4⟩ | k
      · refine Or.inl ⟨k1, k2, ?_, fun c' ys' e4 e5 => ?_⟩
        · show zset (zdel σ.2 b) a _ (bk c) = none
          rw [zset_ne (fun e9 => by rw [e9, ha] at k3; cases k3)]
          unfold zdel
          split
          · rfl
          · exact k3
        · rcases key e4 with ⟨rfl, -⟩ | ⟨q6, q7, e6⟩
          · rw [bk_a] at e5
            rw [← e5, hb] at k3; cases k3
          · rw [bk_n _ q6] at e5
            exact k4 c' ys' e6 e5
      · exact Or.inr k
  · rcases key e with ⟨rfl, -⟩ | ⟨-, -, e2⟩
    · exact g4 _ _ ha
    · exact g4 c o e2
  · rcases key e with ⟨-, e2⟩ | ⟨-, -, e2⟩
    · cases e2
      obtain ⟨i, hi⟩ := List.getElem?_of_mem hy
      have hlt := (List.getElem?_eq_some_iff.mp hi).1
      exact hz y (g6 b n f hb i (by omega) y (by rw [h3 i (by omega)]; exact hi))
    · exact hz y (g5 c ys e2 y hy)
  · rcases key e with ⟨-, e2⟩ | ⟨-, -, e2⟩
    · cases e2
    · exact hz y (g6 c n' f' e2 i hi y hy)
/-- an ArrayList's object over one of the two empty arrays becomes the empty list -/
theorem WC.close0 {mcn : Int32} (h : WC G A σ H) (ha : σ.2 a = some (zob 15 [.int mcn, .ref b, .int 0])) (hb0 : b = σ.1 256 ∨ b = σ.1 257) (hbA : ¬ A b) : WC G A (zup_ σ a (zlt [])) H := by
  obtain ⟨g0, g1, g2, ⟨bk, g3⟩, g4, g5, g6⟩ := h
  have hz : ∀ y, zel σ y → zel (zup_ σ a (zlt [])) y := by
    intro y hy
    rcases zel_ne ha hy with ⟨ci, fs, e, h15, hne⟩ | h
    · exact Or.inl ⟨ci, fs, by show zset σ.2 a _ y = _; rw [zset_ne hne]; exact e, h15⟩
    · exact Or.inr h
  obtain ⟨bk2, hbk⟩ : ∃ g : Nat → Nat, g = fun c => if c = a then b else bk c := ⟨_, rfl⟩
  have bk_a : bk2 a = b := by rw [hbk]; simp
  have bk_n : ∀ c, c ≠ a → bk2 c = bk c := fun c hc => by rw [hbk]; simp [hc]
  refine ⟨g0, fun c ci fs e => ?_, fun c kd x e => ?_, ⟨bk2, fun c ys e => ?_⟩, fun c o e => ?_, fun c ys e y hy => ?_, fun c n' f' e i hi y hy => ?_⟩
  · rcases zset_some e with ⟨-, e2⟩ | ⟨-, e2⟩
    · cases e2
    · exact g1 c ci fs e2
  · rcases zset_some e with ⟨-, e2⟩ | ⟨-, e2⟩
    · cases e2
    · exact g2 c kd x e2
  · rcases zset_some e with ⟨rfl, e2⟩ | ⟨hca, e2⟩
    · cases e2
      obtain ⟨r, q1, q2, q3⟩ := g1 _ _ _ ha
      cases q1
      refine ⟨mcn, 0, fun _ => none, by rw [bk_a]; exact q3, Nat.le_refl _, by decide, fun i hi => absurd hi (Nat.not_lt_zero i), Or.inr ⟨rfl, ?_⟩⟩
      rw [bk_a]; exact hb0
    · obtain ⟨mcn', n', f', q1, q2, q3, q4, q5⟩ := g3 c ys e2
      refine ⟨mcn', n', f', by rw [bk_n _ hca]; exact q1, q2, q3, q4, ?_⟩
      rw [bk_n _ hca]
      rcases q5 with ⟨k1, k2, k3, k4⟩ | k
      · by_cases hba : bk c = a
        · rw [hba, ha] at k3; cases k3
        · refine Or.inl ⟨k1, k2, by show zset σ.2 a _ (bk c) = none; rw [zset_ne hba]; exact k3, fun c' ys' e4 e5 => ?_⟩
          rcases zset_some e4 with ⟨rfl, -⟩ | ⟨q6, e6⟩
          · rw [bk_a] at e5
            exact absurd (by rw [e5]; exact k2) hbA
          · rw [bk_n _ q6] at e5
            exact k4 c' ys' e6 e5
      · exact Or.inr k
  · rcases zset_some e with ⟨rfl, -⟩ | ⟨-, e2⟩
    · exact g4 _ _ ha
    · exact g4 c o e2
  · rcases zset_some e with ⟨-, e2⟩ | ⟨-, e2⟩
    · cases e2; cases hy
    · exact hz y (g5 c ys e2 y hy)
  · rcases zset_some e with ⟨-, e2⟩ | ⟨-, e2⟩
    · cases e2
    · exact hz y (g6 c n' f' e2 i hi y hy)
/-- a list is unfolded -/
theorem WC.unf {xs : List Nat} (h : WC G A σ H) (ha : σ.2 a = some (zlt xs)) : ∃ (mcn : Int32) (b n : Nat) (f : Nat → Option Nat), xs.length ≤ n ∧ n < 2 ^ 31 ∧ (∀ i, i < n → f i = xs[i]?) ∧
    ((A b ∧ σ.2 b = none ∧ WC G A (zup_ (zup_ σ b (zra_ 1 n f)) a (zob 15 [.int mcn, .ref b, .int (nI xs.length)])) H) ∨
     ((b = σ.1 256 ∨ b = σ.1 257) ∧ n = 0 ∧ WC G A (zup_ σ a (zob 15 [.int mcn, .ref b, .int (nI xs.length)])) H)) := by
  obtain ⟨g0, g1, g2, ⟨bk, g3⟩, g4, g5, g6⟩ := h
  obtain ⟨mcn, n, f, q1, q2, q3, q4, q5⟩ := g3 a xs ha
  refine ⟨mcn, bk a, n, f, q2, q3, q4, ?_⟩
  have hfy : ∀ i, i < n → ∀ y, f i = some y → zel σ y := fun i hi y hy => g5 a xs ha y (List.mem_of_getElem? (by rw [← q4 i hi]; exact hy))
  rcases q5 with ⟨k1, k2, k3, k4⟩ | ⟨k1, k2⟩
  · refine Or.inl ⟨k2, k3, ?_⟩
    have hba : bk a ≠ a := fun e => by rw [e, ha] at k3; cases k3
    have key : ∀ {c : Nat} {x : zO}, zset (zset σ.2 (bk a) (zra_ 1 n f)) a (zob 15 [.int mcn, .ref (bk a), .int (nI xs.length)]) c = some x → (c = a ∧ x = zob 15 [.int mcn, .ref (bk a), .int (nI xs.length)]) ∨ (c = bk a ∧ x = zra_ 1 n f) ∨ (c ≠ a ∧ c ≠ bk a ∧ σ.2 c = some x) := by
      intro c x e
      rcases zset_some e with h | ⟨h, e2⟩
      · exact Or.inl h
      · rcases zset_some e2 with h2 | ⟨h2, e3⟩
        · exact Or.inr (Or.inl h2)
        · exact Or.inr (Or.inr ⟨h, h2, e3⟩)
    have hz : ∀ y, zel σ y → zel (zup_ (zup_ σ (bk a) (zra_ 1 n f)) a (zob 15 [.int mcn, .ref (bk a), .int (nI xs.length)])) y := by
      rintro y (⟨ci, fs, e, h15⟩ | h)
      · refine Or.inl ⟨ci, fs, ?_, h15⟩
        show zset (zset σ.2 _ _) a _ y = _
        rw [zset_ne (fun e2 => by rw [e2, ha] at e; cases e), zset_ne (fun e2 => by rw [e2, k3] at e; cases e)]
        exact e
      · exact Or.inr h
    refine ⟨g0, fun c ci fs e => ?_, fun c kd x e => ?_, ⟨bk, fun c ys e => ?_⟩, fun c o e => ?_, fun c ys e y hy => ?_, fun c n' f' e i hi y hy => ?_⟩
    · rcases key e with ⟨rfl, e2⟩ | ⟨-, e2⟩ | ⟨-, -, e2⟩
      · cases e2; exact ⟨(RJ2, TJ2, 3), rfl, rfl, q1⟩
      · cases e2
      · exact g1 c ci fs e2
    · rcases key e with ⟨-, e2⟩ | ⟨rfl, e2⟩ | ⟨-, -, e2⟩
      · cases e2
      · cases e2; exact k1
      · exact g2 c kd x e2
    · rcases key e with ⟨-, e2⟩ | ⟨-, e2⟩ | ⟨h1, h2, e2⟩
      · cases e2
      · cases e2
      · obtain ⟨mcn', n', f', p1, p2, p3, p4, p5⟩ := g3 c ys e2
        refine ⟨mcn', n', f', p1, p2, p3, p4, ?_⟩
        rcases p5 with ⟨r1, r2, r3, r4⟩ | r
        · refine Or.inl ⟨r1, r2, ?_, fun c' ys' e4 e5 => ?_⟩
          · show zset (zset σ.2 _ _) a _ (bk c) = none
            rw [zset_ne (fun e2 => by rw [e2, ha] at r3; cases r3), zset_ne (fun e3 => h1 (k4 c ys e2 e3))]
            exact r3
          · rcases key e4 with ⟨-, e6⟩ | ⟨-, e6⟩ | ⟨-, -, e6⟩
            · cases e6
            · cases e6
            · exact r4 c' ys' e6 e5
        · exact Or.inr r
    · rcases key e with ⟨rfl, -⟩ | ⟨rfl, -⟩ | ⟨-, -, e2⟩
      · exact g4 _ _ ha
      · exact k2
      · exact g4 c o e2
    · rcases key e with ⟨-, e2⟩ | ⟨-, e2⟩ | ⟨-, -, e2⟩
      · cases e2
      · cases e2
      · exact hz y (g5 c ys e2 y hy)
    · rcases key e with ⟨-, e2⟩ | ⟨-, e2⟩ | ⟨-, -, e2⟩
      · cases e2
      · cases e2; exact hz y (hfy i hi y hy)
      · exact hz y (g6 c n' f' e2 i hi y hy)
  · refine Or.inr ⟨k2, k1, ?_⟩
    have hz : ∀ y, zel σ y → zel (zup_ σ a (zob 15 [.int mcn, .ref (bk a), .int (nI xs.length)])) y := fun y hy => zel_set hy (fun ci fs e => by rw [ha] at e; cases e)
    refine ⟨g0, fun c ci fs e => ?_, fun c kd x e => ?_, ⟨bk, fun c ys e => ?_⟩, fun c o e => ?_, fun c ys e y hy => ?_, fun c n' f' e i hi y hy => ?_⟩
    · rcases zset_some e with ⟨rfl, e2⟩ | ⟨-, e2⟩
      · cases e2; exact ⟨(RJ2, TJ2, 3), rfl, rfl, q1⟩
      · exact g1 c ci fs e2
    · rcases zset_some e with ⟨-, e2⟩ | ⟨-, e2⟩
      · cases e2
      · exact g2 c kd x e2
    · rcases zset_some e with ⟨-, e2⟩ | ⟨h1, e2⟩
      · cases e2
      · obtain ⟨mcn', n', f', p1, p2, p3, p4, p5⟩ := g3 c ys e2
        refine ⟨mcn', n', f', p1, p2, p3, p4, ?_⟩
        rcases p5 with ⟨r1, r2, r3, r4⟩ | r
        · refine Or.inl ⟨r1, r2, ?_, fun c' ys' e4 e5 => ?_⟩
          · show zset σ.2 a _ (bk c) = none
            rw [zset_ne (fun e2 => by rw [e2, ha] at r3; cases r3)]
            exact r3
          · rcases zset_some e4 with ⟨-, e6⟩ | ⟨-, e6⟩
            · cases e6
            · exact r4 c' ys' e6 e5
        · exact Or.inr r
    · rcases zset_some e with ⟨rfl, -⟩ | ⟨-, e2⟩
      · exact g4 _ _ ha
      · exact g4 c o e2
    · rcases zset_some e with ⟨-, e2⟩ | ⟨-, e2⟩
      · cases e2
      · exact hz y (g5 c ys e2 y hy)
    · rcases zset_some e with ⟨-, e2⟩ | ⟨-, e2⟩
      · cases e2
      · exact hz y (g6 c n' f' e2 i hi y hy)
/-- two stores that are the same at every address -/
theorem WC.ext {τ : Nat → Option zO} (h : WC G A σ H) (e : ∀ q, σ.2 q = τ q) : WC G A (σ.1, τ) H := by
  have : σ.2 = τ := funext e
  subst this
  exact h
end ZLI

/-! three more words of the predicates -/
def zgV (σ : zSt) (a : Nat) (K : Int32 → Prop) : Prop := ∃ k, k < 256 ∧ a = σ.1 k ∧ K (vb_c k)
def zch (σ : zSt) (i : Int32) (K : Nat → Prop) : Prop := ∃ k, k < 256 ∧ i = nI k ∧ K (σ.1 k)
def zoa (σ : zSt) (a : Nat) : Prop := (∃ n f, σ.2 a = some (zra_ 1 n f)) ∨ a = σ.1 256 ∨ a = σ.1 257
def zrq (σ : zSt) (a : Nat) : Prop := ∃ ci fs, σ.2 a = some (zob ci fs) ∧ (ci = 7 ∨ ci = 10)

/-! CONTRACTS turned: another start, another end -/
set_option maxRecDepth 100000
section ZCV
variable {l : Launch} {y : MethodName} {cc : ByteArray} {maxL : Nat} {ret : Option FieldType} {fr lo mc ms : Nat} {A : Nat → Prop} {G : zG} {av : List Value} {Om : Heap → Prop} {P : Option Value → Heap → Prop} {PX : String → Heap → Prop}
theorem Con.conv {ι : Sort _} {Omi : ι → Heap → Prop} {Pi : ι → Option Value → Heap → Prop} {PXi : ι → String → Heap → Prop} (h : ∀ U : State, KW G A U → Om U.heap → ∃ i : ι, Omi i U.heap)
    (hC : ∀ i, Con l y cc maxL ret fr lo mc ms A G av (Omi i) (Pi i) (PXi i)) (hp : ∀ i v H, Pi i v H → P v H) (hx : ∀ i E H, PXi i E H → PX E H) : Con l y cc maxL ret fr lo mc ms A G av Om P PX := by
  intro p e ha hc hk s m args below hf happ hPc hK
  obtain ⟨hav, hA, hkw, hO⟩ := hPc
  obtain ⟨i, hi⟩ := h s hkw hO
  obtain ⟨n, o, h1, h2, h3, hQ⟩ := hC i p e ha hc hk s m args below hf happ ⟨hav, hA, hkw, hi⟩ trivial
  refine ⟨n, o, h1, h2, h3, ?_⟩
  rcases hQ with ⟨⟨⟨v, e1, e2⟩, hF⟩, hL⟩ | ⟨q, e1, E, ce, L, ⟨e2, hF⟩, e3⟩
  · exact Or.inl ⟨⟨⟨v, e1, hp i v _ e2⟩, hF⟩, hL⟩
  · exact Or.inr ⟨q, e1, E, ce, L, ⟨hx i E _ e2, hF⟩, e3⟩
/-- what isn't in the part that is written: the constants -/
theorem KW.nA {U : State} (h : KW G A U) : (¬ A (G.2.2 256)) ∧ ¬ A (G.2.2 257) := by
  obtain ⟨_, _, _, _, _, _, _, h8⟩ := h.2.2.2.2.2.2.2.1
  obtain ⟨_, _, _, _, _, _, _, h9⟩ := h.2.2.2.2.2.2.2.2.1
  exact ⟨h8, h9⟩
end ZCV

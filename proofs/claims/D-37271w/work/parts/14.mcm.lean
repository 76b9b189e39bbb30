/-! answers and contracts of the model's methods -/
abbrev Qi (f : Int → mS → Prop) : Option mV → mS → Prop := fun r S' => match r with
  | some (.inl z) => f z S'
  | _ => False
abbrev Qv (f : mS → Prop) : Option mV → mS → Prop := fun r S' => match r with
  | none => f S'
  | _ => False
theorem Qi_ok {f : Int → mS → Prop} {r : Option mV} {S' : mS} (h : Qi f r S') : ∃ z, r = some (.inl z) ∧ f z S' := by
  rcases r with _ | z | z | z
  · exact False.elim h
  · exact ⟨z, rfl, h⟩
  · exact False.elim h
  · exact False.elim h
theorem Qv_ok {f : mS → Prop} {r : Option mV} {S' : mS} (h : Qv f r S') : r = none ∧ f S' := by
  rcases r with _ | z
  · exact ⟨rfl, h⟩
  · exact False.elim h
theorem CM.mono {g : mG} {y : MethodName} {cc : ByteArray} {nL : Nat} {rt : Option FieldType} {h : Nat} {as : List mV} {S : mS} {Q Q' : Option mV → mS → Prop} (hm : CM g y cc nL rt h as S Q) (hq : ∀ r S', Q r S' → mI S' → (∀ v, r = some v → mok v) → Q' r S') : CM g y cc nL rt h as S Q' := by
  intro p e ha hc hk s m args below hf happ hP hK
  obtain ⟨n, o, h1, h2, h3, ⟨⟨r, S', q1, q2, q3, q4⟩, q5⟩, q6⟩ := hm p e ha hc hk s m args below hf happ hP hK
  exact ⟨n, o, h1, h2, h3, ⟨⟨r, S', q1, q2, q3, hq r S' q4 q2.2.2 q3⟩, q5⟩, q6⟩
theorem CM.pre {g : mG} {y : MethodName} {cc : ByteArray} {nL : Nat} {rt : Option FieldType} {h : Nat} {as : List mV} {S : mS} {Q : Option mV → mS → Prop} (hm : mI S → (∀ a ∈ as, mok a) → CM g y cc nL rt h as S Q) : CM g y cc nL rt h as S Q := by
  intro p e ha hc hk s m args below hf happ hP hK
  exact hm hP.2.1.2.2 hP.2.2.2.2 p e ha hc hk s m args below hf happ hP hK
theorem mokI {z : Int} (h : mok (.inl z)) : -2147483648 ≤ z ∧ z ≤ 2147483647 := h

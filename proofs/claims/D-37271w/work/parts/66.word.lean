/-! the model's words: signOf, word, typedAt, digit, prints, outNumber -/
set_option maxRecDepth 100000
def sgnOf (c : Int) : Int :=
  if c = 33 then 6 else if c = 35 then 14 else if c = 37 then 4 else if c = 38 then 7 else if c = 42 then 2 else if c = 43 then 0 else if c = 45 then 1 else if c = 47 then 3 else if c = 60 then 9 else if c = 61 then 11 else if c = 62 then 10 else if c = 63 then 15 else if c = 64 then 13 else if c = 94 then 5 else if c = 124 then 8 else if c = 126 then 12 else -1
theorem s_signOf {g : mG} {S : mS} {c : Int} {Qp : Option mV → mS → Prop} (k : Qp (some (mi (sgnOf c))) S) : CX_signOf g [mi c] S Qp := by
  refine of_signOf ?_
  intro _ _
  refine ⟨fun e => by subst e; exact k, fun h0 => ⟨fun e => by subst e; exact k, fun h1 => ⟨fun e => by subst e; exact k, fun h2 => ⟨fun e => by subst e; exact k, fun h3 => ⟨fun e => by subst e; exact k, fun h4 => ⟨fun e => by subst e; exact k, fun h5 => ⟨fun e => by subst e; exact k, fun h6 => ⟨fun e => by subst e; exact k, fun h7 => ⟨fun e => by subst e; exact k, fun h8 => ⟨fun e => by subst e; exact k, fun h9 => ⟨fun e => by subst e; exact k, fun h10 => ⟨fun e => by subst e; exact k, fun h11 => ⟨fun e => by subst e; exact k, fun h12 => ⟨fun e => by subst e; exact k, fun h13 => ⟨fun e => by subst e; exact k, fun h14 => ⟨fun e => by subst e; exact k, fun h15 => ?_⟩⟩⟩⟩⟩⟩⟩⟩⟩⟩⟩⟩⟩⟩⟩⟩
  have e : sgnOf c = -1 := by
    unfold sgnOf
    repeat rw [if_neg (by omega)]
  rw [e] at k
  exact k
theorem sgnOf_bd (c : Int) : -1 ≤ sgnOf c ∧ sgnOf c ≤ 15 := by
  unfold sgnOf
  repeat' (first | omega | split)
theorem s_rankOf {g : mG} {S : mS} {c f : Int} {Qp : Option mV → mS → Prop} (hc : 0 ≤ sgnOf c) (hf : 0 ≤ f ∧ f ≤ 2) (k : Qp (some (mi (S 15 (3 * sgnOf c + f)))) S) : CX_rankOf g [mt, mi c, mi f] S Qp := by
  have := sgnOf_bd c
  refine of_rankOf ?_
  intro _ _ _
  refine s_signOf ?_
  intro _ _
  exact ⟨by omega, by omega, by omega, by omega, k⟩
/-- a word: kind, what, place -/
abbrev wd := Int × Int × Int
def ws (S : mS) (L : List wd) : Prop := S 25 0 = L.length ∧ hl (S 20) (L.map (fun w => w.1)) ∧ hl (S 21) (L.map (fun w => w.2.1)) ∧ hl (S 22) (L.map (fun w => w.2.2)) ∧ ∀ i : Int, 0 ≤ i → i < L.length → S 23 i = -1 ∧ S 24 i = 0
/-- nothing but words is changed -/
def wfr (S S' : mS) : Prop := ∀ k : Nat, (k < 20 ∨ 25 < k) → S' k = S k
theorem s_word {g : mG} {S : mS} {a b c : Int} {L : List wd} {Qp : Option mV → mS → Prop} (h : ws S L) (hlen : L.length < 1000) (k : ∀ S', ws S' (L ++ [(a, b, c)]) → wfr S S' → Qp none S') : CX_word g [mt, mi a, mi b, mi c] S Qp := by
  obtain ⟨h0, h1, h2, h3, h4⟩ := h
  refine of_word ?_
  intro _ _ _ _
  rw [h0]
  refine ⟨by omega, by omega, by omega, k _ ⟨?_, ?_, ?_, ?_, fun i i1 i2 => ⟨?_, ?_⟩⟩ (fun j hj => ?_)⟩
  · rw [mup_eq, List.length_append, List.length_singleton]; omega
  · rw [mupf 20 (by decide), mupf 20 (by decide), mupf 20 (by decide), mupf 20 (by decide), mupf 20 (by decide), List.map_append]
    have := h1.snoc (v := a)
    rw [List.length_map] at this
    exact this
  · rw [mupf 21 (by decide), mupf 21 (by decide), mupf 21 (by decide), mupf 21 (by decide), List.map_append]
    have := hl.snoc (T := mup S 20 L.length a) (k := 21) (v := b) (by rw [mupf 21 (by decide)]; exact h2)
    rw [List.length_map] at this
    exact this
  · rw [mupf 22 (by decide), mupf 22 (by decide), mupf 22 (by decide), List.map_append]
    have := hl.snoc (T := mup (mup S 20 L.length a) 21 L.length b) (k := 22) (v := c) (by rw [mupf 22 (by decide), mupf 22 (by decide)]; exact h3)
    rw [List.length_map] at this
    exact this
  · rw [List.length_append, List.length_singleton] at i2
    rw [mup_ne (by decide), mup_ne (by decide), mup_at]
    split
    · rfl
    · rw [mup_ne (by decide), mup_ne (by decide), mup_ne (by decide)]
      exact (h4 i i1 (by omega)).1
  · rw [List.length_append, List.length_singleton] at i2
    rw [mup_ne (by decide), mup_at]
    split
    · rfl
    · rw [mup_ne (by decide), mup_ne (by decide), mup_ne (by decide), mup_ne (by decide)]
      exact (h4 i i1 (by omega)).2
  · rw [mupf j (by omega), mupf j (by omega), mupf j (by omega), mupf j (by omega), mupf j (by omega), mupf j (by omega)]
/-- what was typed -/
def ty (S : mS) (L : List Int) : Prop := S 19 0 = L.length ∧ L.length ≤ 60 ∧ hl (S 18) L
theorem s_typedAt {g : mG} {S : mS} {i : Int} {L : List Int} {Qp : Option mV → mS → Prop} (h : ty S L) (hi : 0 ≤ i) (k : Qp (some (mi (L[i.toNat]?.getD (-1)))) S) : CX_typedAt g [mt, mi i] S Qp := by
  obtain ⟨h0, h1, h2⟩ := h
  refine of_typedAt ?_
  intro _ _
  rw [h0]
  refine ⟨fun c => ?_, fun c => ⟨hi, by omega, ?_⟩⟩
  · rw [List.getElem?_eq_none (by omega)] at k
    exact k
  · have e := List.getElem?_eq_getElem (l := L) (i := i.toNat) (by omega)
    have := h2 _ _ e
    rw [show ((i.toNat : Nat) : Int) = i by omega] at this
    rw [e] at k
    rw [this]
    exact k
/-- what a sign is as a digit -/
def digQ (c base : Int) : Int :=
  if 48 ≤ c ∧ c ≤ 57 then (if c - 48 < base then c - 48 else -1) else if 97 ≤ c ∧ c ≤ 102 then (if c - 87 < base then c - 87 else -1) else -1
theorem s_digit {g : mG} {S : mS} {c b : Int} {Qp : Option mV → mS → Prop} (k : Qp (some (mi (digQ c b))) S) : CX_digit g [mi c, mi b] S Qp := by
  unfold digQ at k
  refine of_digit ?_
  intro _ _ _
  refine s_in ?_
  intro _ _
  refine ⟨fun z => ?_, fun z => ?_⟩
  · rw [if_neg (fun y => b01_ne.mpr y z)] at k
    refine s_in ?_
    intro _ _
    refine ⟨fun z2 => ?_, fun z2 => ?_⟩
    · rw [if_neg (fun y => b01_ne.mpr y z2)] at k
      exact ⟨fun _ => k, fun _ => k⟩
    · rw [if_pos (b01_ne.mp z2)] at k
      have := b01_ne.mp z2
      refine ⟨by omega, by omega, fun y => ?_, fun y => ?_⟩
      · rw [if_neg (by omega)] at k; exact k
      · rw [if_pos (by omega), show c - 87 = c - 97 + 10 by omega] at k; exact k
  · have := b01_ne.mp z
    rw [if_pos this] at k
    refine ⟨by omega, fun y => ?_, fun y => ?_⟩
    · rw [if_neg (by omega)] at k; exact k
    · rw [if_pos (by omega)] at k; exact k
/-- what is printed -/
def prt (S : mS) (L : List Int) : Prop := S 42 0 = L.length ∧ hl (S 41) L
def pfr (S S' : mS) : Prop := ∀ k : Nat, k ≠ 41 → k ≠ 42 → S' k = S k
theorem s_prints {g : mG} {S : mS} {c : Int} {L : List Int} {Qp : Option mV → mS → Prop} (h : prt S L) (hlen : L.length < 2000) (k : ∀ S', prt S' (L ++ [c]) → pfr S S' → Qp none S') : CX_prints g [mt, mi c] S Qp := by
  obtain ⟨h0, h1⟩ := h
  refine of_prints ?_
  intro _ _
  rw [h0]
  refine ⟨by omega, by omega, by omega, k _ ⟨?_, ?_⟩ (fun j a b => by rw [mupf j b, mupf j a])⟩
  · rw [mup_eq, List.length_append, List.length_singleton]; omega
  · rw [mupf 41 (by decide)]
    exact h1.snoc

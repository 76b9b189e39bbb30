/-! the model's trees: node, copyNodes, child, areSame -/
set_option maxRecDepth 100000
theorem mup_ni {S : mS} {k k' : Nat} {i j v : Int} (h : ¬ i = j) : mup S k j v k' i = S k' i := by
  by_cases c : k' = k
  · subst c; exact mup_nj h
  · rw [mupf k' c]
/-- nothing but the nodes at places u is changed -/
def tfr (S S' : mS) (u : Int → Prop) : Prop := (∀ k : Nat, (k < 4 ∨ 8 < k) → S' k = S k) ∧ ∀ (k : Nat) (i : Int), ¬ u i → S' k i = S k i
theorem tfr.refl {S : mS} {u : Int → Prop} : tfr S S u := ⟨fun _ _ => rfl, fun _ _ _ => rfl⟩
theorem tfr.trans {S S' T : mS} {u : Int → Prop} (h : tfr S S' u) (h' : tfr S' T u) : tfr S T u :=
  ⟨fun k a => (h'.1 k a).trans (h.1 k a), fun k i a => (h'.2 k i a).trans (h.2 k i a)⟩
theorem tfr.mono {S S' : mS} {u u' : Int → Prop} (h : tfr S S' u) (hu : ∀ v, u v → u' v) : tfr S S' u' :=
  ⟨h.1, fun k i a => by
    by_cases c : (k < 4 ∨ 8 < k)
    · rw [h.1 k c]
    · exact h.2 k i (fun q => a (hu i q))⟩
theorem tr.keep {S S' : mS} {u : Int → Prop} {p : Int} {l : List nd} (h : tr S p l) (hf : tfr S S' u) (hu : ∀ i, p ≤ i → i < p + l.length → ¬ u i) : tr S' p l :=
  ⟨h.1, h.2.1.keep (fun k _ _ i a b => hf.2 k i (hu i a b)), h.2.2.keep (fun i a b => hf.2 8 i (hu i a b))⟩
theorem nds.move {S S' : mS} : ∀ {l : List nd} {p q : Int}, nds S p l → (∀ k : Nat, 4 ≤ k → k ≤ 8 → ∀ j : Int, 0 ≤ j → j < l.length → S' k (q + j) = S k (p + j)) → nds S' q l
  | [], p, q, _, _ => trivial
  | x :: l, p, q, h, e => by
    rw [List.length_cons] at e
    have e0 := fun (k : Nat) (a : 4 ≤ k) (b : k ≤ 8) => e k a b 0 (by omega) (by omega)
    refine ⟨?_, nds.move h.2 (fun k a b j c d => ?_)⟩
    · have h1 := e0 4 (by decide) (by decide)
      have h2 := e0 5 (by decide) (by decide)
      have h3 := e0 6 (by decide) (by decide)
      have h4 := e0 7 (by decide) (by decide)
      rw [Int.add_zero, Int.add_zero] at h1 h2 h3 h4
      rw [h1, h2, h3, h4]
      exact h.1
    · rw [show q + 1 + j = q + (1 + j) by omega, show p + 1 + j = p + (1 + j) by omega]
      exact e k a b _ (by omega) (by omega)
theorem spn.move {S S' : mS} : ∀ {l : List nd} {p q : Int}, spn S p l → (∀ j : Int, 0 ≤ j → j < l.length → S' 8 (q + j) = S 8 (p + j)) → spn S' q l
  | [], p, q, _, _ => trivial
  | x :: l, p, q, h, e => by
    rw [List.length_cons] at e
    refine ⟨?_, spn.move h.2 (fun j c d => ?_)⟩
    · have h1 := e 0 (by omega) (by omega)
      rw [Int.add_zero, Int.add_zero] at h1
      rw [h1]
      exact h.1
    · rw [show q + 1 + j = q + (1 + j) by omega, show p + 1 + j = p + (1 + j) by omega]
      exact e _ (by omega) (by omega)
theorem nds_get {S : mS} : ∀ {l : List nd} {p : Int}, nds S p l → ∀ (i : Nat) (x : nd), l[i]? = some x → S 4 (p + i) = nk x ∧ S 5 (p + i) = nw x ∧ S 6 (p + i) = nf x ∧ S 7 (p + i) = nc x
  | [], p, _, i, x, e => by simp at e
  | y :: l, p, h, 0, x, e => by
    rw [List.getElem?_cons_zero] at e
    cases e
    rw [show p + ((0 : Nat) : Int) = p by omega]
    exact h.1
  | y :: l, p, h, i + 1, x, e => by
    rw [List.getElem?_cons_succ] at e
    have := nds_get h.2 i x e
    rw [show p + 1 + (i : Int) = p + ((i + 1 : Nat) : Int) by omega] at this
    exact this
theorem spn_part {S : mS} {l : List nd} {a b : Nat} {p : Int} (w : wf l (a + b)) (h : spn S p l) : spn S p (hd l a) ∧ spn S (p + (hd l a).length) (tl l a) := by
  have e := hd_tl l a
  rw [← e] at h
  exact (spn_app (wf_split w).1).mp h
theorem nds_part {S : mS} {l : List nd} {a : Nat} {p : Int} (h : nds S p l) : nds S p (hd l a) ∧ nds S (p + (hd l a).length) (tl l a) := by
  have e := hd_tl l a
  rw [← e] at h
  exact nds_app.mp h
/-- the tree behind the first j trees of a row -/
def kid (l : List nd) (j : Nat) : List nd := hd (tl l j) 1
theorem tl_cons {l : List nd} {a b : Nat} (w : wf l (a + (b + 1))) : ∃ y m, tl l a = y :: m := by
  have := (wf_split w).2
  cases e : tl l a with
  | nil => rw [e] at this; exact absurd (show b + 1 = 0 from this) (by omega)
  | cons y m => exact ⟨y, m, rfl⟩
theorem kid_tr {S : mS} {l : List nd} {a n : Nat} {p : Int} (w : wf l n) (ha : a < n) (h : nds S p l) (h' : spn S p l) : tr S (p + (hd l a).length) (kid l a) := by
  rw [show n = a + (1 + (n - a - 1)) by omega] at w
  obtain ⟨-, w2⟩ := wf_split w
  exact ⟨(wf_split w2).1, (nds_part (nds_part h).2).1, (spn_part w2 (spn_part w h').2).1⟩
theorem kid_len {l : List nd} {a n : Nat} (w : wf l n) (ha : a < n) : (hd l (a + 1)).length = (hd l a).length + (kid l a).length ∧ 0 < (kid l a).length := by
  rw [hd_add.1, List.length_append]
  refine ⟨rfl, ?_⟩
  rw [show n = a + (1 + (n - a - 1)) by omega] at w
  exact wf_len (wf_split (wf_split w).2).1
theorem hd_len_le (l : List nd) (a : Nat) : (hd l a).length ≤ l.length := by
  have := congrArg List.length (hd_tl l a)
  rw [List.length_append] at this
  omega
theorem s_node {g : mG} {S : mS} {p a b c d : Int} {Qp : Option mV → mS → Prop} (hp : 0 ≤ p ∧ p < 20300) (k : ∀ S', S' 4 p = a → S' 5 p = b → S' 6 p = c → S' 7 p = d → S' 8 p = 1 → tfr S S' (· = p) → Qp none S') : CX_node g [mt, mi p, mi a, mi b, mi c, mi d] S Qp := by
  refine of_node ?_
  intro _ _ _ _ _ _
  refine ⟨hp.1, hp.2, k _ ?_ ?_ ?_ ?_ ?_ ⟨fun j hj => ?_, fun j i hi => ?_⟩⟩
  · rw [mupf 4 (by decide), mupf 4 (by decide), mupf 4 (by decide), mupf 4 (by decide), mup_eq]
  · rw [mupf 5 (by decide), mupf 5 (by decide), mupf 5 (by decide), mup_eq]
  · rw [mupf 6 (by decide), mupf 6 (by decide), mup_eq]
  · rw [mupf 7 (by decide), mup_eq]
  · rw [mup_eq]
  · rw [mupf j (by omega), mupf j (by omega), mupf j (by omega), mupf j (by omega), mupf j (by omega)]
  · rw [mup_ni hi, mup_ni hi, mup_ni hi, mup_ni hi, mup_ni hi]
theorem s_copyNodes {g : mG} {S : mS} {t f m : Int} {Qp : Option mV → mS → Prop} (ht : 0 ≤ t ∧ t + m ≤ 20300) (hf : 0 ≤ f ∧ f + m ≤ 20300) (hm : 0 ≤ m) (hne : t ≤ f ∨ f + m ≤ t)
    (k : ∀ S', (∀ k : Nat, 4 ≤ k → k ≤ 8 → ∀ j : Int, 0 ≤ j → j < m → S' k (t + j) = S k (f + j)) → tfr S S' (fun i => t ≤ i ∧ i < t + m) → Qp none S') : CX_copyNodes g [mt, mi t, mi f, mi m] S Qp := by
  refine of_copyNodes (fun n l1 l2 l3 l4 T => l1 = t ∧ l2 = f ∧ l3 = m ∧ 0 ≤ l4 ∧ l4 ≤ m ∧ (∀ k : Nat, 4 ≤ k → k ≤ 8 → ∀ j : Int, 0 ≤ j → j < l4 → T k (t + j) = S k (f + j)) ∧ tfr S T (fun i => t ≤ i ∧ i < t + l4) ∧ n = (m - l4).toNat) ?_ ?_
  · intro _ _ _ _
    exact ⟨_, rfl, rfl, rfl, by omega, hm, fun k _ _ j a b => by omega, tfr.refl, rfl⟩
  · rintro n l1 l2 l3 l4 T hS _ _ _ _ ⟨rfl, rfl, rfl, b1, b2, b3, b4, rfl⟩
    refine ⟨fun c => ?_, fun c => ?_⟩
    · have e : l4 = l3 := by omega
      subst e
      exact k T b3 b4
    · have rd := fun (j : Nat) => b4.2 j (l2 + l4) (by omega)
      refine ⟨by omega, by omega, by omega, by omega, by omega, by omega, by omega, _, ?_, rfl, rfl, rfl, by omega, by omega, fun j h1 h2 i h3 h4 => ?_, ?_, rfl⟩
      · omega
      · by_cases hi : i = l4
        · subst hi
          rw [← rd j]
          have cs : j = 4 ∨ j = 5 ∨ j = 6 ∨ j = 7 ∨ j = 8 := by omega
          rcases cs with rfl | rfl | rfl | rfl | rfl
          · rw [mupf 4 (by decide), mupf 4 (by decide), mupf 4 (by decide), mupf 4 (by decide), mup_eq]
          · rw [mupf 5 (by decide), mupf 5 (by decide), mupf 5 (by decide), mup_eq]
          · rw [mupf 6 (by decide), mupf 6 (by decide), mup_eq]
          · rw [mupf 7 (by decide), mup_eq]
          · rw [mup_eq]
        · have ne : l1 + i ≠ l1 + l4 := by omega
          rw [mup_ni ne, mup_ni ne, mup_ni ne, mup_ni ne, mup_ni ne]
          exact b3 j h1 h2 i h3 (by omega)
      · refine (b4.mono (fun i h => by omega)).trans ⟨fun j hj => ?_, fun j i hi => ?_⟩
        · rw [mupf j (by omega), mupf j (by omega), mupf j (by omega), mupf j (by omega), mupf j (by omega)]
        · have ne : i ≠ l1 + l4 := by omega
          rw [mup_ni ne, mup_ni ne, mup_ni ne, mup_ni ne, mup_ni ne]
/-- a tree is copied -/
theorem s_copyTree {g : mG} {S : mS} {t f m : Int} {l : List nd} {Qp : Option mV → mS → Prop} (ht : 0 ≤ t ∧ t + m ≤ 20300) (hf : 0 ≤ f ∧ f + m ≤ 20300) (hm : m = l.length) (hne : t ≤ f ∨ f + m ≤ t) (h : tr S f l)
    (k : ∀ S', tr S' t l → tfr S S' (fun i => t ≤ i ∧ i < t + m) → Qp none S') : CX_copyNodes g [mt, mi t, mi f, mi m] S Qp := by
  refine s_copyNodes ht hf (by omega) hne (fun S' e fr => k S' ⟨h.1, h.2.1.move (fun k a b j c d => e k a b j c (by omega)), h.2.2.move (fun j c d => e 8 (by decide) (by decide) j c (by omega))⟩ fr)
theorem s_child {g : mG} {S : mS} {p j : Int} {x : nd} {l : List nd} {Qp : Option mV → mS → Prop} (hp : 0 ≤ p ∧ p + (x :: l).length ≤ 20300) (h : tr S p (x :: l)) (hj : 0 ≤ j ∧ j ≤ ar x)
    (k : Qp (some (mi (p + 1 + (hd l j.toNat).length))) S) : CX_child g [mt, mi p, mi j] S Qp := by
  rw [List.length_cons] at hp
  obtain ⟨w, -, s⟩ := h
  have w2 : wf l (0 + ar x) := w.2
  rw [Nat.zero_add] at w2
  have hl := hd_len_le l
  refine of_child (fun n l2 l3 l4 T => T = S ∧ l2 = j ∧ 0 ≤ l4 ∧ l4 ≤ j ∧ l3 = p + 1 + (hd l l4.toNat).length ∧ n = (j - l4).toNat) ?_ ?_
  · intro _ _ _
    refine ⟨by omega, _, rfl, rfl, by omega, hj.1, ?_, rfl⟩
    rw [show (0 : Int).toNat = 0 from rfl, hd0]
    simp
  · rintro n l2 l3 l4 T hS _ _ _ ⟨rfl, rfl, b1, b2, rfl, rfl⟩
    refine ⟨fun c => ?_, fun c => ?_⟩
    · have e : l4 = l2 := by omega
      subst e
      exact k
    · obtain ⟨y, m, e⟩ := tl_cons (l := l) (a := l4.toNat) (b := ar x - l4.toNat - 1) (by rw [show l4.toNat + (ar x - l4.toNat - 1 + 1) = ar x by omega]; exact w2)
      have sp := (spn_part (a := l4.toNat) (b := ar x - l4.toNat) (by rw [show l4.toNat + (ar x - l4.toNat) = ar x by omega]; exact w2) s.2).2
      rw [e] at sp
      have sp1 := sp.1
      have kl := kid_len (a := l4.toNat) w2 (by omega)
      have kd : (kid l l4.toNat).length = spl (y :: m) := by unfold kid spl; rw [e]
      have h1 := hl (l4.toNat + 1)
      refine ⟨by omega, by omega, by omega, by omega, _, ?_, rfl, rfl, by omega, by omega, ?_, rfl⟩
      · omega
      · rw [sp1, show (l4 + 1).toNat = l4.toNat + 1 by omega]
        omega

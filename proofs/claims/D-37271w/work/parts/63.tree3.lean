/-! the model's trees: areSame, span -/
set_option maxRecDepth 100000
theorem tr_len {S : mS} {p : Int} {l : List nd} (h : tr S p l) : S 8 p = l.length ∧ 0 < l.length := by
  obtain ⟨w, -, s⟩ := h
  have := wf_len w
  cases l with
  | nil => exact absurd this (by decide)
  | cons x l =>
    refine ⟨?_, by omega⟩
    rw [s.1]
    unfold spl
    rw [(wf_hd_self w).1]
theorem s_areSame {g : mG} {S : mS} {a b : Int} {l m : List nd} {Qp : Option mV → mS → Prop} (ha : 0 ≤ a ∧ a + l.length ≤ 20300) (hb : 0 ≤ b ∧ b + m.length ≤ 20300) (h : tr S a l) (h' : tr S b m)
    (k : Qp (some (mi (b01 (l = m)))) S) : CX_areSame g [mt, mi a, mi b] S Qp := by
  obtain ⟨e1, g1⟩ := tr_len h
  obtain ⟨e2, g2⟩ := tr_len h'
  refine of_areSame (fun n l1 l2 l3 l4 l5 T => T = S ∧ l1 = a ∧ l2 = b ∧ l4 = l.length ∧ 0 ≤ l5 ∧ l5 ≤ l.length ∧ ((l3 = 1 ∧ l.length = m.length ∧ ∀ i : Nat, i < l5 → l[i]? = m[i]?) ∨ (l3 = 0 ∧ l ≠ m)) ∧ n = (l.length - l5).toNat) ?_ ?_
  · intro _ _ _
    rw [e1, e2]
    refine ⟨by omega, by omega, by omega, by omega, fun c => ⟨_, rfl, rfl, rfl, rfl, by omega, by omega, Or.inr ⟨rfl, fun q => c (by rw [q])⟩, rfl⟩, fun c => ⟨_, rfl, rfl, rfl, rfl, by omega, by omega, Or.inl ⟨rfl, by omega, fun i q => by omega⟩, rfl⟩⟩
  · rintro n l1 l2 l3 l4 l5 T hS _ _ _ _ _ ⟨rfl, rfl, rfl, rfl, b1, b2, b3, rfl⟩
    unfold b01 at k
    have out0 : l ≠ m → (l3 = 0) → (l3 = 0 ∨ l3 = 1) ∧ Qp (some (mi l3)) T := by
      rintro q rfl
      rw [if_neg q] at k
      exact ⟨Or.inl rfl, k⟩
    refine ⟨fun c => ?_, fun c => ⟨fun c2 => ?_, fun c2 => ?_⟩⟩
    · rcases b3 with ⟨rfl, y1, y2⟩ | ⟨y1, y2⟩
      · have : l = m := by
          refine List.ext_getElem? (fun i => ?_)
          by_cases q : (i : Int) < l5
          · exact y2 i q
          · rw [List.getElem?_eq_none (by omega), List.getElem?_eq_none (by omega)]
        rw [if_pos this] at k
        exact ⟨Or.inr rfl, k⟩
      · exact out0 y2 y1
    · rcases b3 with ⟨y0, y1, y2⟩ | ⟨y1, y2⟩
      · omega
      · exact out0 y2 y1
    · rcases b3 with ⟨rfl, y1, y2⟩ | ⟨y1, y2⟩
      rotate_left
      · exact absurd y1 c2
      have lt : l5.toNat < l.length := by omega
      have lt2 : l5.toNat < m.length := by omega
      have q1 := nds_get h.2.1 l5.toNat _ (List.getElem?_eq_getElem lt)
      have q2 := nds_get h'.2.1 l5.toNat _ (List.getElem?_eq_getElem lt2)
      rw [show ((l5.toNat : Nat) : Int) = l5 by omega] at q1 q2
      obtain ⟨p4, p5, p6, p7⟩ := q1
      obtain ⟨r4, r5, r6, r7⟩ := q2
      have no : l[l5.toNat] ≠ m[l5.toNat] → ∃ n1, n1 < ((l.length : Int) - l5).toNat ∧ T = T ∧ l1 = l1 ∧ l2 = l2 ∧ (l.length : Int) = l.length ∧ 0 ≤ l5 + 1 ∧ l5 + 1 ≤ l.length ∧ (((0 : Int) = 1 ∧ l.length = m.length ∧ ∀ i : Nat, (i : Int) < l5 + 1 → l[i]? = m[i]?) ∨ ((0 : Int) = 0 ∧ l ≠ m)) ∧ n1 = ((l.length : Int) - (l5 + 1)).toNat := by
        intro z
        refine ⟨_, ?_, rfl, rfl, rfl, rfl, by omega, by omega, Or.inr ⟨rfl, fun w => z ?_⟩, rfl⟩
        · omega
        · subst w; rfl
      rw [p4, p5, p6, p7, r4, r5, r6, r7]
      refine ⟨by omega, by omega, by omega, by omega, by omega, by omega, fun y => ⟨by omega, no (fun w => y (by rw [w]))⟩, fun y4 => ⟨fun y => ⟨by omega, no (fun w => y (by rw [w]))⟩, fun y5 => ⟨fun y => ⟨by omega, no (fun w => y (by rw [w]))⟩, fun y6 => ⟨fun y => ⟨by omega, no (fun w => y (by rw [w]))⟩, fun y7 => ⟨by omega, _, ?_, rfl, rfl, rfl, rfl, by omega, by omega, Or.inl ⟨rfl, y1, fun i q => ?_⟩, rfl⟩⟩⟩⟩⟩
      · omega
      · by_cases e : i = l5.toNat
        · subst e
          rw [List.getElem?_eq_getElem lt, List.getElem?_eq_getElem lt2]
          congr 1
          exact Prod.ext (Decidable.not_not.mp y4) (Prod.ext (Decidable.not_not.mp y5) (Prod.ext (Decidable.not_not.mp y6) (Decidable.not_not.mp y7)))
        · exact y2 i (by omega)
theorem wf_drop : ∀ {l : List nd} {n i : Nat}, wf l n → ∃ m, wf (l.drop i) m
  | l, n, 0, w => ⟨n, w⟩
  | [], n, i + 1, w => ⟨0, rfl⟩
  | x :: l, 0, i + 1, w => w.elim
  | x :: l, n + 1, i + 1, w => wf_drop (l := l) (i := i) w.2
theorem nds_drop {S : mS} : ∀ {l : List nd} {p : Int} (i : Nat), nds S p l → i ≤ l.length → nds S (p + i) (l.drop i)
  | l, p, 0, h, _ => by rw [show p + ((0 : Nat) : Int) = p by omega]; exact h
  | [], p, i + 1, h, q => absurd q (by simp)
  | x :: l, p, i + 1, h, q => by
    have := nds_drop i h.2 (by rw [List.length_cons] at q; omega)
    rw [show p + 1 + (i : Int) = p + ((i + 1 : Nat) : Int) by omega] at this
    exact this
theorem s_span {g : mG} {S : mS} {p m : Int} {l : List nd} {n : Nat} {Qp : Option mV → mS → Prop} (hp : 0 ≤ p ∧ p + m ≤ 20300) (hm : m = l.length) (w : wf l n) (h : nds S p l)
    (k : ∀ S', nds S' p l → spn S' p l → (∀ j : Nat, j ≠ 8 → S' j = S j) → tfr S S' (fun i => p ≤ i ∧ i < p + m) → Qp none S') : CX_span g [mt, mi p, mi m] S Qp := by
  refine of_span
    (fun c l1 l3 T => l1 = p ∧ -1 ≤ l3 ∧ l3 < m ∧ (∀ j : Nat, j ≠ 8 → T j = S j) ∧ tfr S T (fun i => p ≤ i ∧ i < p + m) ∧ spn T (p + (l3 + 1)) (l.drop (l3 + 1).toNat) ∧ c = (l3 + 1).toNat * 1000000)
    (fun c l1 l3 l4 l5 T => l1 = p ∧ 0 ≤ l3 ∧ l3 < m ∧ (∀ j : Nat, j ≠ 8 → T j = S j) ∧ tfr S T (fun i => p ≤ i ∧ i < p + m) ∧ spn T (p + (l3 + 1)) (l.drop (l3 + 1).toNat) ∧ 0 ≤ l5 ∧ (∃ x : nd, l[l3.toNat]? = some x ∧ l5 ≤ nc x ∧ 0 ≤ nc x ∧ ar x ≤ m) ∧ l4 = p + l3 + 1 + (hd (l.drop (l3 + 1).toNat) l5.toNat).length ∧ c = l3.toNat * 1000000 + (999999 - l5).toNat)
    ?_ ?_ ?_
  · intro _ _ _
    refine ⟨by omega, _, rfl, by omega, by omega, fun _ _ => rfl, tfr.refl, ?_, rfl⟩
    rw [show (m - 1 + 1).toNat = l.length by omega, List.drop_length]
    exact trivial
  · rintro c l1 l3 T hS _ _ ⟨rfl, b1, b2, b3, b4, b5, rfl⟩
    have b7 : T 7 = S 7 := b3 7 (by decide)
    have nT : nds T l1 l := h.keep (fun j c1 c2 i _ _ => by rw [b3 j (by omega)])
    refine ⟨fun c => ?_, fun c => ?_⟩
    · have e : l3 = -1 := by omega
      subst e
      rw [show (-1 + 1 : Int).toNat = 0 from rfl, List.drop_zero, show l1 + (-1 + 1 : Int) = l1 by omega] at b5
      exact k T nT b5 b3 b4
    · have lt : l3.toNat < l.length := by omega
      obtain ⟨q, wq⟩ := wf_drop (i := l3.toNat) w
      rw [List.drop_eq_getElem_cons lt] at wq
      have ex : 0 ≤ nc l[l3.toNat] ∧ (ar l[l3.toNat] : Int) ≤ m := by
        cases q with
        | zero => exact wq.elim
        | succ q =>
          have := wf_len wq.2
          rw [List.length_drop] at this
          exact ⟨wq.1, by omega⟩
      refine ⟨by omega, by omega, _, ?_, rfl, by omega, b2, b3, b4, b5, by omega, ⟨l[l3.toNat], List.getElem?_eq_getElem lt, by omega, ex.1, ex.2⟩, ?_, rfl⟩
      · omega
      · rw [show (0 : Int).toNat = 0 from rfl, hd0]
        simp
  · rintro c l1 l3 l4 l5 T hS _ _ _ _ ⟨rfl, b1, b2, b3, b4, b5, b6, ⟨x, hx, x1, x2, x3⟩, rfl, rfl⟩
    have nT : nds T l1 l := h.keep (fun j c1 c2 i _ _ => by rw [b3 j (by omega)])
    have lt : l3.toNat < l.length := by omega
    have e7 := (nds_get nT l3.toNat x hx).2.2.2
    rw [show ((l3.toNat : Nat) : Int) = l3 by omega] at e7
    have en : (l3 + 1).toNat = l3.toNat + 1 := by omega
    have dr : l.drop l3.toNat = x :: l.drop (l3 + 1).toNat := by
      rw [List.drop_eq_getElem_cons lt, en]
      congr 1
      rw [List.getElem?_eq_getElem lt] at hx
      exact Option.some.inj hx
    obtain ⟨q, wq⟩ := wf_drop (i := l3.toNat) w
    rw [dr] at wq
    have rl : (l.drop (l3 + 1).toNat).length = l.length - (l3.toNat + 1) := by rw [List.length_drop, en]
    have hl := hd_len_le (l.drop (l3 + 1).toNat)
    have arx : (ar x : Int) = nc x := by unfold ar nc; unfold nc at x2; omega
    rw [e7]
    refine ⟨by omega, by omega, by omega, fun c => ?_, fun c => ?_⟩
    · have e : l5 = nc x := by omega
      subst e
      have hlx := hl (nc x).toNat
      refine ⟨by omega, by omega, by omega, _, ?_, rfl, by omega, by omega, fun j hj => ?_, b4.trans ⟨fun j hj => mupf j (by omega), fun j i hi => mup_ni (by omega)⟩, ?_, rfl⟩
      · omega
      · rw [mupf j hj]; exact b3 j hj
      · rw [show l3 + -1 + 1 = l3 by omega, dr]
        refine ⟨?_, ?_⟩
        · rw [mup_eq]
          unfold spl
          show _ = (((x :: hd (l.drop (l3 + 1).toNat) (0 + ar x)).length : Nat) : Int)
          rw [List.length_cons, show 0 + ar x = (nc x).toNat by omega]
          omega
        · rw [show l1 + l3 + 1 = l1 + (l3 + 1) by omega]
          exact b5.keep (fun i a b => mup_nj (by omega))
    · cases q with
      | zero => exact wq.elim
      | succ q =>
        have w2 := wq.2
        obtain ⟨y, mm, e⟩ := tl_cons (l := l.drop (l3 + 1).toNat) (a := l5.toNat) (b := q + ar x - l5.toNat - 1) (by rw [show l5.toNat + (q + ar x - l5.toNat - 1 + 1) = q + ar x by omega]; exact w2)
        have sp := (spn_part (a := l5.toNat) (b := q + ar x - l5.toNat) (by rw [show l5.toNat + (q + ar x - l5.toNat) = q + ar x by omega]; exact w2) b5).2
        rw [e] at sp
        have sp1 := sp.1
        rw [show l1 + (l3 + 1) + ((hd (l.drop (l3 + 1).toNat) l5.toNat).length : Int) = l1 + l3 + 1 + (hd (l.drop (l3 + 1).toNat) l5.toNat).length by omega] at sp1
        have kl := kid_len (a := l5.toNat) w2 (by omega)
        have kd : (kid (l.drop (l3 + 1).toNat) l5.toNat).length = spl (y :: mm) := by unfold kid spl; rw [e]
        have h1 := hl (l5.toNat + 1)
        rw [sp1]
        refine ⟨by omega, by omega, by omega, by omega, _, ?_, rfl, b1, b2, b3, b4, b5, by omega, ⟨x, hx, by omega, x2, x3⟩, ?_, rfl⟩
        · omega
        · rw [show (l5 + 1).toNat = l5.toNat + 1 by omega]
          omega

/-! the model's trees: inOrder -/
set_option maxRecDepth 100000
theorem spn_drop {S : mS} : ∀ {l : List nd} {p : Int} (i : Nat), spn S p l → i ≤ l.length → spn S (p + i) (l.drop i)
  | l, p, 0, h, _ => by rw [show p + ((0 : Nat) : Int) = p by omega]; exact h
  | [], p, i + 1, h, q => absurd q (by simp)
  | x :: l, p, i + 1, h, q => by
    have := spn_drop i h.2 (by rw [List.length_cons] at q; omega)
    rw [show p + 1 + (i : Int) = p + ((i + 1 : Nat) : Int) by omega] at this
    exact this
/-- places of an array hold a list -/
def hl (f : Int → Int) (L : List Int) : Prop := ∀ (i : Nat) (v : Int), L[i]? = some v → f i = v
theorem hl.snoc {T : mS} {k : Nat} {L : List Int} {v : Int} (h : hl (T k) L) : hl (mup T k L.length v k) (L ++ [v]) := by
  intro i w e
  rw [mup_at]
  by_cases c : i < L.length
  · rw [if_neg (by omega)]
    rw [List.getElem?_append_left c] at e
    exact h i w e
  · by_cases c2 : i = L.length
    · subst c2
      rw [List.getElem?_append_right (Nat.le_refl _), Nat.sub_self] at e
      rw [if_pos rfl]
      exact Option.some.inj e
    · rw [List.getElem?_eq_none (by rw [List.length_append, List.length_singleton]; omega)] at e
      exact absurd e (by simp)
theorem s_inOrder {g : mG} {S : mS} {p : Int} {l : List nd} {Qp : Option mV → mS → Prop} (hp : 0 ≤ p ∧ p + l.length ≤ 20300) (hlen : l.length ≤ 100) (h : tr S p l)
    (k : ∀ S', hl (S' 14) (pst l.length p l) → (∀ j : Nat, j ≠ 14 → S' j = S j) → Qp (some (mi l.length)) S') : CX_inOrder g [mt, mi p] S Qp := by
  obtain ⟨e8, len0⟩ := tr_len h
  have full := oc_pst l.length (p := p) h.1 (Nat.le_refl _)
  have flen := pst_len l.length (p := p) (Nat.le_refl l.length)
  refine of_inOrder
    (fun n l1 l2 l3 T => l1 = p ∧ p + 1 ≤ l3 ∧ l3 ≤ p + l.length + 1 ∧ (∀ j : Nat, j ≠ 14 → T j = S j) ∧ hl (T 14) (oc p l (l3 - p - 1).toNat) ∧ l2 = (oc p l (l3 - p - 1).toNat).length ∧ n = (l.length + 1 - (l3 - p)).toNat * 1000000)
    (fun n l1 l2 l3 l4 T => l1 = p ∧ p + 1 ≤ l3 ∧ l3 ≤ p + l.length ∧ p - 1 ≤ l4 ∧ l4 < l3 ∧ (∀ j : Nat, j ≠ 14 → T j = S j) ∧ hl (T 14) (oc p l (l3 - p - 1).toNat ++ em (l4 + 1) (l.drop (l4 + 1 - p).toNat) l3) ∧ l2 = (oc p l (l3 - p - 1).toNat ++ em (l4 + 1) (l.drop (l4 + 1 - p).toNat) l3).length ∧ n = (l.length - (l3 - p)).toNat * 1000000 + (l4 - p + 2).toNat)
    ?_ ?_ ?_
  · intro _ _
    refine ⟨by omega, _, rfl, by omega, by omega, fun _ _ => rfl, ?_, ?_, rfl⟩
    · rw [show (p + 1 - p - 1).toNat = 0 by omega]
      intro i v e
      exact absurd e (by simp [oc])
    · rw [show (p + 1 - p - 1).toNat = 0 by omega]
      rfl
  · rintro n l1 l2 l3 T hS _ _ _ ⟨rfl, b1, b2, b3, b4, rfl, rfl⟩
    rw [b3 8 (by decide), e8]
    refine ⟨by omega, by omega, by omega, fun c => ?_, fun c => ?_⟩
    · have e : (l3 - l1 - 1).toNat = l.length := by omega
      rw [e, full] at b4
      rw [e, full, flen]
      exact k T b4 b3
    · have em0 : em (l3 - 1 + 1) (l.drop (l3 - 1 + 1 - l1).toNat) l3 = [] := em_low (by omega)
      refine ⟨by omega, _, ?_, rfl, by omega, by omega, by omega, by omega, b3, ?_, ?_, rfl⟩
      · omega
      · rw [em0, List.append_nil]; exact b4
      · rw [em0, List.append_nil]
  · rintro n l1 l2 l3 l4 T hS _ _ _ _ ⟨rfl, b1, b2, b3, b4, b5, b6, rfl, rfl⟩
    refine ⟨fun c => ?_, fun c => ?_⟩
    · have e : l4 = l1 - 1 := by omega
      subst e
      rw [show l1 - 1 + 1 = l1 by omega, show (l1 - l1).toNat = 0 by omega, List.drop_zero] at b6
      rw [show l1 - 1 + 1 = l1 by omega, show (l1 - l1).toNat = 0 by omega, List.drop_zero]
      have eo : oc l1 l (l3 + 1 - l1 - 1).toNat = oc l1 l (l3 - l1 - 1).toNat ++ em l1 l l3 := by
        rw [show (l3 + 1 - l1 - 1).toNat = (l3 - l1 - 1).toNat + 1 by omega]
        show _ ++ em l1 l (l1 + (l3 - l1 - 1).toNat + 1) = _
        rw [show l1 + ((l3 - l1 - 1).toNat : Int) + 1 = l3 by omega]
      refine ⟨by omega, _, ?_, rfl, by omega, by omega, b5, ?_, ?_, rfl⟩
      · omega
      · rw [eo]; exact b6
      · rw [eo]
    · have lt : (l4 - l1).toNat < l.length := by omega
      have sd := spn_drop (l4 - l1).toNat h.2.2 (by omega)
      rw [show l1 + ((l4 - l1).toNat : Int) = l4 by omega, List.drop_eq_getElem_cons lt] at sd
      have s1 := sd.1
      have en : (l4 + 1 - l1).toNat = (l4 - l1).toNat + 1 := by omega
      have st : em l4 (l.drop (l4 - l1).toNat) l3 = em (l4 + 1) (l.drop (l4 + 1 - l1).toNat) l3 ++ (if l4 + spl (l[(l4 - l1).toNat] :: l.drop ((l4 - l1).toNat + 1)) = l3 then [l4] else []) := by
        rw [List.drop_eq_getElem_cons lt, en]
        rfl
      have en2 : (l4 + -1 + 1 - l1).toNat = (l4 - l1).toNat := by omega
      have en3 : l4 + -1 + 1 = l4 := by omega
      -- room
      have rm : ((oc l1 l (l3 - l1 - 1).toNat ++ em l4 (l.drop (l4 - l1).toNat) l3).length) ≤ l.length := by
        obtain ⟨r, hr⟩ := em_drop (e := l3) (l := l) (p := l1) (l4 - l1).toNat (by omega)
        rw [show l1 + ((l4 - l1).toNat : Int) = l4 by omega] at hr
        obtain ⟨r', hr'⟩ := oc_pre (p := l1) (l := l) (a := (l3 - l1 - 1).toNat + 1) (l.length - ((l3 - l1 - 1).toNat + 1))
        rw [show (l3 - l1 - 1).toNat + 1 + (l.length - ((l3 - l1 - 1).toNat + 1)) = l.length by omega, full] at hr'
        have hl1 := congrArg List.length hr'
        rw [flen, List.length_append] at hl1
        have hh : oc l1 l ((l3 - l1 - 1).toNat + 1) = oc l1 l (l3 - l1 - 1).toNat ++ em l1 l (l1 + (l3 - l1 - 1).toNat + 1) := rfl
        rw [show l1 + ((l3 - l1 - 1).toNat : Int) + 1 = l3 by omega, hr] at hh
        have hl2 := congrArg List.length hh
        rw [List.length_append, List.length_append] at hl2
        rw [List.length_append]
        omega
      rw [b5 8 (by decide), s1]
      have sle := spl_le (l[(l4 - l1).toNat] :: l.drop ((l4 - l1).toNat + 1))
      have sll : (l[(l4 - l1).toNat] :: l.drop ((l4 - l1).toNat + 1)).length ≤ 100 := by
        rw [List.length_cons, List.length_drop]
        omega
      refine ⟨by omega, by omega, by omega, fun c2 => ?_, fun c2 => ?_⟩
      · rw [if_neg c2, List.append_nil] at st
        refine ⟨by omega, _, ?_, rfl, b1, b2, by omega, by omega, b5, ?_, ?_, rfl⟩
        · omega
        · rw [en2, en3, st]; exact b6
        · rw [en2, en3, st]
      · rw [if_pos (Decidable.not_not.mp c2)] at st
        rw [st, ← List.append_assoc, List.length_append (bs := [l4]), List.length_singleton] at rm
        refine ⟨by omega, by omega, by omega, by omega, _, ?_, rfl, b1, b2, by omega, by omega, fun j hj => ?_, ?_, ?_, rfl⟩
        · omega
        · rw [mupf j hj]; exact b5 j hj
        · rw [en2, en3, st, ← List.append_assoc]
          exact hl.snoc b6
        · rw [en2, en3, st, ← List.append_assoc, List.length_append (bs := [l4]), List.length_singleton]
          omega

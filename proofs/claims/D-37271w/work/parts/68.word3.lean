/-! the model's words: number -/
set_option maxRecDepth 100000
theorem eatD_step {b : Int} {m : Nat} {v c : Int} {l : List Int} (h : 0 ≤ digQ c b) : eatD b (m + 1) v (c :: l) = ((eatD b m (b * v + digQ c b) l).1, (eatD b m (b * v + digQ c b) l).2 + 1) := by
  show (if 0 ≤ digQ c b then _ else _) = _
  rw [if_pos h]
/-- the loop over digits -/
def numI (S : mS) (L : List Int) (i : Int) (b at0 : Int) (most : Nat) : Nat → Int → Int → Int → Int → Int → Int → mS → Prop :=
  fun n l1 l3 l4 l5 l6 l7 T => T = S ∧ l1 = i ∧ l3 = b ∧ l5 = most ∧ l6 = at0 ∧ at0 ≤ l4 ∧ l4 - at0 ≤ most ∧ l4 ≤ L.length ∧ 0 ≤ l7 ∧ l7 < b ^ (l4 - at0).toNat ∧
    eatD b most 0 (L.drop at0.toNat) = ((eatD b (most - (l4 - at0).toNat) l7 (L.drop l4.toNat)).1, (eatD b (most - (l4 - at0).toNat) l7 (L.drop l4.toNat)).2 + (l4 - at0).toNat) ∧ n = (L.length - l4).toNat
theorem s_number {g : mG} {S : mS} {i : Int} {L : List Int} {W : List wd} {Qp : Option mV → mS → Prop} (hi : 0 ≤ i ∧ i < L.length) (ht : ty S L) (h : ws S W) (hlen : W.length < 1000)
    (k : ∀ S', ws S' (W ++ [(0, (numQ L i.toNat).1, i)]) → wfr S S' → Qp (some (mi (if (numQ L i.toNat).2.1 = 0 then -((numQ L i.toNat).2.2 : Int) else (numQ L i.toNat).2.2 + (numQ L i.toNat).2.1))) S') : CX_number g [mt, mi i] S Qp := by
  obtain ⟨t0, t1, t2⟩ := id ht
  have hs : (i + 1).toNat = i.toNat + 1 := by omega
  -- one loop for each base
  have ent : ∀ (b at0 : Int) (most : Nat), (b = 10 ∧ at0 = i ∧ most = 9) ∨ ((b = 2 ∨ b = 8 ∨ b = 16) ∧ at0 = i + 2 ∧ most = 7 ∧ i + 2 ≤ L.length) → ∃ n1, numI S L i b at0 most n1 i b at0 most at0 0 S := by
    intro b at0 most hc
    refine ⟨_, rfl, rfl, rfl, rfl, rfl, by omega, by omega, by omega, by omega, ?_, ?_, rfl⟩
    · rw [show (at0 - at0).toNat = 0 by omega, Int.pow_zero]; omega
    · rw [show (at0 - at0).toNat = 0 by omega, Nat.sub_zero]; rfl
  let C : Int → Int → Nat → Prop := fun b at0 most =>
    numB (L[i.toNat]?.getD (-1)) (L[i.toNat + 1]?.getD (-1)) = b ∧ ((b = 10 ∧ at0 = i ∧ most = 9) ∨ ((b = 2 ∨ b = 8 ∨ b = 16) ∧ at0 = i + 2 ∧ most = 7 ∧ i + 2 ≤ L.length))
  have two : ∀ d : Int, d ≠ -1 → L[i.toNat + 1]?.getD (-1) = d → i + 2 ≤ L.length := by
    intro d hd e
    by_cases c : i + 2 ≤ L.length
    · exact c
    · rw [List.getElem?_eq_none (by omega)] at e
      exact absurd e.symm hd
  refine of_number (fun n l1 l3 l4 l5 l6 l7 T => ∃ (b at0 : Int) (most : Nat), C b at0 most ∧ numI S L i b at0 most n l1 l3 l4 l5 l6 l7 T) ?_ ?_
  · intro _ _
    refine ⟨by omega, ?_⟩
    refine s_typedAt ht (by omega) ?_
    intro _ _
    refine s_typedAt ht (by omega) ?_
    intro _ _
    rw [hs]
    generalize e5 : L[i.toNat]?.getD (-1) = v5
    generalize e3 : L[i.toNat + 1]?.getD (-1) = v3
    have go : ∀ (b at0 : Int) (most : Nat), numB v5 v3 = b → ((b = 10 ∧ at0 = i ∧ most = 9) ∨ ((b = 2 ∨ b = 8 ∨ b = 16) ∧ at0 = i + 2 ∧ most = 7 ∧ i + 2 ≤ L.length)) → ∃ n1, ∃ (b' at0' : Int) (most' : Nat), C b' at0' most' ∧ numI S L i b' at0' most' n1 i b at0 most at0 0 S := by
      intro b at0 most hb hc
      obtain ⟨n1, q⟩ := ent b at0 most hc
      exact ⟨n1, b, at0, most, ⟨by rw [e5, e3]; exact hb, hc⟩, q⟩
    unfold numB at go
    refine ⟨fun c => ⟨fun c1 => ⟨fun c2 => ⟨fun c3 => ?_, fun c3 => ?_⟩, fun c2 => ?_⟩, fun c1 => ?_⟩, fun c => ?_⟩
    · exact go 10 i 9 (by rw [if_pos c, if_neg c1, if_neg c2, if_neg c3]) (Or.inl ⟨rfl, rfl, rfl⟩)
    · have e : v3 = 98 := by omega
      exact ⟨by omega, go 2 (i + 2) 7 (by rw [if_pos c, if_neg c1, if_neg c2, if_pos e]) (Or.inr ⟨by omega, rfl, rfl, two 98 (by decide) (by rw [e3, e])⟩)⟩
    · have e : v3 = 111 := by omega
      exact ⟨by omega, go 8 (i + 2) 7 (by rw [if_pos c, if_neg c1, if_pos e]) (Or.inr ⟨by omega, rfl, rfl, two 111 (by decide) (by rw [e3, e])⟩)⟩
    · have e : v3 = 120 := by omega
      exact ⟨by omega, go 16 (i + 2) 7 (by rw [if_pos c, if_pos e]) (Or.inr ⟨by omega, rfl, rfl, two 120 (by decide) (by rw [e3, e])⟩)⟩
    · exact go 10 i 9 (by rw [if_neg c]) (Or.inl ⟨rfl, rfl, rfl⟩)
  · rintro n l1 l3 l4 l5 l6 l7 T hS _ _ _ _ _ _ ⟨b, at0, most, ⟨hb, hc⟩, rfl, rfl, rfl, rfl, rfl, b1, b2, b3, b4, b5, b6, rfl⟩
    have nq : numQ L l1.toNat = ((eatD l3 most 0 (L.drop l6.toNat)).1, (eatD l3 most 0 (L.drop l6.toNat)).2, l6.toNat) := by
      unfold numQ
      rw [hb]
      rcases hc with ⟨rfl, rfl, rfl⟩ | ⟨z, rfl, rfl, -⟩
      · rw [if_pos rfl]
      · rw [if_neg (by omega), show (l1 + 2).toNat = l1.toNat + 2 by omega]
    -- the end
    have fin : eatD l3 (most - (l4 - l6).toNat) l7 (L.drop l4.toNat) = (l7, 0) → CX_word g [mt, mi 0, mi l7, mi l1] T (Qv fun S2 => mI S2 → ((l4 ≠ l6) → Qp (some (mi l4)) S2) ∧ (¬ (l4 ≠ l6) → (-2147483648 ≤ -l4 ∧ -l4 ≤ 2147483647) ∧ Qp (some (mi (-l4))) S2)) := by
      intro e0
      rw [e0] at b6
      rw [b6] at nq
      rw [nq] at k
      refine s_word h hlen (fun S2 h2 f2 => ?_)
      intro _
      have K := k S2 h2 f2
      dsimp only at K
      refine ⟨fun c => ?_, fun c => ⟨by omega, ?_⟩⟩
      · rw [if_neg (by omega), show ((l6.toNat : Nat) : Int) + ((0 + (l4 - l6).toNat : Nat) : Int) = l4 by omega] at K
        exact K
      · rw [if_pos (by omega), show -((l6.toNat : Nat) : Int) = -l4 by omega] at K
        exact K
    refine ⟨by omega, fun c => ?_, fun c => ⟨fun c2 => ?_, fun c2 => ?_⟩⟩
    · refine fin ?_
      rw [show most - (l4 - l6).toNat = 0 by omega]
      rfl
    · refine fin ?_
      rw [List.drop_eq_nil_of_le (by omega)]
      cases most - (l4 - l6).toNat <;> rfl
    · rw [t0] at c2
      have lt : l4.toNat < L.length := by omega
      have e18 := t2 _ _ (List.getElem?_eq_getElem lt)
      rw [show ((l4.toNat : Nat) : Int) = l4 by omega] at e18
      have dr := List.drop_eq_getElem_cons lt
      rw [e18]
      refine ⟨by omega, by omega, ?_⟩
      refine s_digit ?_
      intro _ _
      refine ⟨fun c3 => fin ?_, fun c3 => ?_⟩
      · rw [dr, show most - (l4 - l6).toNat = (most - (l4 - l6).toNat - 1) + 1 by omega]
        show (if 0 ≤ digQ L[l4.toNat] l3 then _ else _) = _
        rw [if_neg (by omega)]
      · have hb0 : 0 < l3 := by omega
        have dl := digQ_lt (c := L[l4.toNat]) hb0
        generalize ed : digQ L[l4.toNat] l3 = d at *
        have pk : l3 ^ ((l4 - l6).toNat + 1) = l3 ^ (l4 - l6).toNat * l3 := Int.pow_succ _ _
        have lt2 : l3 * l7 + d < l3 ^ ((l4 - l6).toNat + 1) := by
          have h1 : l3 * (l7 + 1) ≤ l3 * l3 ^ (l4 - l6).toNat := Int.mul_le_mul_of_nonneg_left (by omega) (by omega)
          rw [pk, Int.mul_comm _ l3]
          rw [Int.mul_add, Int.mul_one] at h1
          omega
        have nn : 0 ≤ l3 * l7 := Int.mul_nonneg (by omega) b4
        have big : l3 ^ ((l4 - l6).toNat + 1) ≤ 1000000000 := by
          have e : ∀ m : Nat, (l4 - l6).toNat + 1 ≤ m → l3 ^ ((l4 - l6).toNat + 1) ≤ l3 ^ m := by
            intro m hm
            have h1 : l3.toNat ^ ((l4 - l6).toNat + 1) ≤ l3.toNat ^ m := Nat.pow_le_pow_right (by omega) hm
            have h2 : ((l3.toNat ^ ((l4 - l6).toNat + 1) : Nat) : Int) ≤ ((l3.toNat ^ m : Nat) : Int) := Int.ofNat_le.mpr h1
            rw [Int.natCast_pow, Int.natCast_pow, show ((l3.toNat : Nat) : Int) = l3 by omega] at h2
            exact h2
          rcases hc with ⟨rfl, -, rfl⟩ | ⟨z, -, rfl, -⟩
          · exact Int.le_trans (e 9 (by omega)) (by decide)
          · refine Int.le_trans (e 7 (by omega)) ?_
            rcases z with rfl | rfl | rfl <;> decide
        refine ⟨by omega, ?_⟩
        rw [e18]
        refine s_digit ?_
        intro _ _
        rw [ed]
        refine ⟨by omega, by omega, _, ?_, l3, l6, most, ⟨hb, hc⟩, rfl, rfl, rfl, rfl, rfl, by omega, by omega, by omega, by omega, ?_, ?_, rfl⟩
        · omega
        · rw [show (l4 + 1 - l6).toNat = (l4 - l6).toNat + 1 by omega]
          exact lt2
        · rw [b6, dr, show most - (l4 - l6).toNat = (most - (l4 + 1 - l6).toNat) + 1 by omega, eatD_step (by omega), ed, show (l4 + 1).toNat = l4.toNat + 1 by omega, show (l4 + 1 - l6).toNat = (l4 - l6).toNat + 1 by omega]
          refine Prod.ext rfl ?_
          show _ + 1 + _ = _ + (_ + 1)
          omega

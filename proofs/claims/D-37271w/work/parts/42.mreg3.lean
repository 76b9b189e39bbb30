/-! the model's wide numbers: put, compare, plus -/
set_option maxRecDepth 100000
theorem s_put {g : mG} {S : mS} {r v : Int} {Qp : Option mV → mS → Prop} (hr : 0 ≤ r ∧ r < 16) (hv : 0 ≤ v) (k : ∀ S', rg S' r v → rfr S S' (· = r) → Qp none S') : CX_put g [mt, mi r, mi v] S Qp := by
  refine of_put ?_
  intro _ _ h3
  refine ⟨by omega, by omega, by omega, by omega, by omega, by omega, by omega, by omega, by omega, ?_⟩
  refine s_trim (x := v) hr ⟨?_, ?_, ?_, ?_⟩ (fun S' h1 h2 => ?_)
  · rw [mup_eq]; decide
  · rw [mup_eq]; decide
  · rw [mup_eq, mupf 1 (by decide), mup_fn, mup_fn]
    intro j a b
    rcases (show j = 0 ∨ j = 1 by omega) with rfl | rfl
    · dsimp only; rw [if_neg (by omega), if_pos (by omega)]; omega
    · dsimp only; rw [if_pos (by omega)]; omega
  · rw [mup_eq, mupf 1 (by decide), mup_fn, mup_fn]
    show (0 + (if 440 * r + ((0 : Nat) : Int) = 440 * r + 1 then v / 65536 else if 440 * r + ((0 : Nat) : Int) = 440 * r then v % 65536 else S 1 (440 * r + ((0 : Nat) : Int))) * 65536 ^ 0) + (if 440 * r + ((1 : Nat) : Int) = 440 * r + 1 then v / 65536 else if 440 * r + ((1 : Nat) : Int) = 440 * r then v % 65536 else S 1 (440 * r + ((1 : Nat) : Int))) * 65536 ^ 1 = v
    rw [if_neg (by omega), if_pos (by omega), if_pos (by omega)]
    omega
  · refine fun _ => k S' h1 (rfr.trans ⟨fun k a b => ?_, fun j hj => ⟨?_, fun i a b => ?_⟩⟩ h2)
    · rw [mupf k b, mupf k a, mupf k a]
    · rw [mup_nj hj, mup_ne (by decide), mup_ne (by decide)]
    · rw [mup_ne (by decide), mup_nj (by omega), mup_nj (by omega)]
/-- the limbs below k are the greater's: what is above decides -/
theorem lv_order {f h : Int → Int} {b c : Int} {n : Nat} (hf : lim f b n) (hh : lim h c n) : ∀ {k : Nat}, k < n → (∀ j : Nat, k < j → j < n → f (b + j) = h (c + j)) → f (b + k) < h (c + k) → lv f b n < lv h c n := by
  induction n with
  | zero => intro k hk; omega
  | succ n ih =>
    intro k hk ha hl
    have i1 : lim f b n := fun j x y => hf j x (by omega)
    have i2 : lim h c n := fun j x y => hh j x (by omega)
    have hp := p16_pos n
    show lv f b n + f (b + n) * 65536 ^ n < lv h c n + h (c + n) * 65536 ^ n
    by_cases hkn : k = n
    · subst hkn
      have b1 := lv_bd i1
      have b2 := lv_bd i2
      have h1 : (f (b + k) + 1) * 65536 ^ k ≤ h (c + k) * 65536 ^ k := Int.mul_le_mul_of_nonneg_right (by omega) (by omega)
      rw [Int.add_mul] at h1
      omega
    · have h1 := ih i1 i2 (k := k) (by omega) (fun j x y => ha j x (by omega)) hl
      have h2 := ha n (by omega) (by omega)
      rw [h2]
      omega
theorem lv_same {f h : Int → Int} {b c : Int} {n : Nat} (ha : ∀ j : Nat, j < n → f (b + j) = h (c + j)) : lv f b n = lv h c n := lv_congr ha
theorem s_compareB {g : mG} {S : mS} {r s x y : Int} {Qp : Option mV → mS → Prop} (hr : 0 ≤ r ∧ r < 16) (hs : 0 ≤ s ∧ s < 16) (h : rg S r x) (h' : rg S s y) (k : ∀ z, (z < 0 ↔ x < y) → (z = 0 ↔ x = y) → (-65536 < z ∧ z < 65536) → Qp (some (mi z)) S) : CX_compare g [mt, mi r, mi s] S Qp := by
  obtain ⟨⟨g1, g2, g3, g4⟩, -⟩ := id h
  obtain ⟨⟨d1, d2, d3, d4⟩, -⟩ := id h'
  refine of_compare (fun n l1 l2 l3 l4 T => T = S ∧ l1 = r ∧ l2 = s ∧ n = (l4 + 1).toNat ∧ S 2 r = S 2 s ∧ -1 ≤ l4 ∧ l4 < S 2 r ∧ (∀ j, l4 < j → l3 = 0 → j < S 2 r → S 1 (440 * r + j) = S 1 (440 * s + j)) ∧ (l3 ≠ 0 → l4 + 1 < S 2 r ∧ l3 = S 1 (440 * r + (l4 + 1)) - S 1 (440 * s + (l4 + 1)) ∧ ∀ j, l4 + 1 < j → j < S 2 r → S 1 (440 * r + j) = S 1 (440 * s + j))) ?_ ?_
  · intro _ _ _
    refine ⟨by omega, by omega, by omega, by omega, fun c => ⟨by omega, _, rfl, rfl, rfl, rfl, c, by omega, by omega, fun j a b d => by omega, fun q => absurd rfl q⟩, fun c => ⟨fun c2 => ?_, fun c2 => ?_⟩⟩
    · have : y < x := by
        obtain ⟨m, hm⟩ : ∃ m : Nat, S 2 r = m + 1 := ⟨(S 2 r - 1).toNat, by omega⟩
        have h1 := h.top hm
        have h2 := rg.lt h'.1
        have h3 := p16_le (a := (S 2 s).toNat) (b := m) (by omega)
        omega
      exact k 1 (by omega) (by omega) (by omega)
    · have : x < y := by
        obtain ⟨m, hm⟩ : ∃ m : Nat, S 2 s = m + 1 := ⟨(S 2 s - 1).toNat, by omega⟩
        have h1 := h'.top hm
        have h2 := rg.lt h.1
        have h3 := p16_le (a := (S 2 r).toNat) (b := m) (by omega)
        omega
      exact k (-1) (by omega) (by omega) (by omega)
  · rintro n l1 l2 l3 l4 T hS _ _ _ _ ⟨rfl, rfl, rfl, rfl, h0, h1, h2, h3, h4⟩
    have hlx : lim (T 1) (440 * l1) ((T 2 l1).toNat : Nat) := fun j a b => g3 j a (by omega)
    have hly : lim (T 1) (440 * l2) ((T 2 l1).toNat : Nat) := fun j a b => d3 j a (by omega)
    have d4' : lv (T 1) (440 * l2) (T 2 l1).toNat = y := by rw [h0]; exact d4
    have fin : l3 = 0 ∧ l4 < 0 ∨ l3 ≠ 0 → (l3 < 0 ↔ x < y) ∧ (l3 = 0 ↔ x = y) := by
      rintro (⟨rfl, q⟩ | q)
      · have : x = y := by
          rw [← g4, ← d4']
          exact lv_congr (fun j hj => h3 j (by omega) rfl (by omega))
        omega
      · obtain ⟨q1, q2, q3⟩ := h4 q
        obtain ⟨m, hm⟩ : ∃ m : Nat, l4 + 1 = m := ⟨(l4 + 1).toNat, by omega⟩
        rw [hm] at q2 q3
        rcases Int.lt_or_gt_of_ne q with c | c
        · have := lv_order hlx hly (k := m) (by omega) (fun j a b => q3 j (by omega) (by omega)) (by omega)
          omega
        · have := lv_order hly hlx (k := m) (by omega) (fun j a b => (q3 j (by omega) (by omega)).symm) (by omega)
          omega
    have bnd : -65536 < l3 ∧ l3 < 65536 := by
      by_cases hz : l3 = 0
      · omega
      · obtain ⟨q1, q2, -⟩ := h4 hz
        have e1 := g3 (l4 + 1) (by omega) (by omega)
        have e2 := d3 (l4 + 1) (by omega) (by omega)
        omega
    refine ⟨fun c => ?_, fun c => ⟨fun c2 => ?_, fun c2 => ?_⟩⟩
    · by_cases hz : l3 = 0
      · obtain ⟨f1, f2⟩ := fin (Or.inl ⟨hz, c⟩)
        exact k l3 f1 f2 bnd
      · obtain ⟨f1, f2⟩ := fin (Or.inr hz)
        exact k l3 f1 f2 bnd
    · obtain ⟨f1, f2⟩ := fin (Or.inr c2)
      exact k l3 f1 f2 bnd
    · have hz : l3 = 0 := Decidable.not_not.mp c2
      subst hz
      have e1 := g3 l4 (by omega) (by omega)
      have e2 := d3 l4 (by omega) (by omega)
      refine ⟨by omega, by omega, by omega, by omega, by omega, by omega, by omega, by omega, by omega, by omega, (l4 + (-1) + 1).toNat, by omega, rfl, rfl, rfl, rfl, h0, by omega, by omega, fun j a b c => ?_, fun q => ⟨by omega, ?_, fun j a b => ?_⟩⟩
      · by_cases hj : j = l4
        · subst hj; omega
        · exact h3 j (by omega) rfl c
      · rw [show l4 + (-1) + 1 = l4 by omega]
      · exact h3 j (by omega) rfl b
theorem s_compare {g : mG} {S : mS} {r s x y : Int} {Qp : Option mV → mS → Prop} (hr : 0 ≤ r ∧ r < 16) (hs : 0 ≤ s ∧ s < 16) (h : rg S r x) (h' : rg S s y) (k : ∀ z, (z < 0 ↔ x < y) → (z = 0 ↔ x = y) → Qp (some (mi z)) S) : CX_compare g [mt, mi r, mi s] S Qp := s_compareB hr hs h h' (fun z a b _ => k z a b)

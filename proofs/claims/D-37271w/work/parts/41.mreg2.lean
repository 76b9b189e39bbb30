/-! the model's wide numbers: compare, copy, put, plus, minus -/
set_option maxRecDepth 100000
theorem mup_fn {S : mS} {k : Nat} {i v : Int} : mup S k i v k = fun j => if j = i then v else S k j := funext fun _ => mup_at
theorem lv_upd {f : Int → Int} {b v : Int} {k : Nat} : ∀ {n : Nat}, lv (fun j => if j = b + k then v else f j) b n = if k < n then lv f b n + (v - f (b + k)) * 65536 ^ k else lv f b n := by
  intro n
  induction n with
  | zero => rfl
  | succ n ih =>
    show lv (fun j => if j = b + k then v else f j) b n + (if b + (n : Int) = b + k then v else f (b + n)) * 65536 ^ n = _
    rw [ih]
    show _ = if k < n + 1 then (lv f b n + f (b + n) * 65536 ^ n) + (v - f (b + k)) * 65536 ^ k else lv f b n + f (b + n) * 65536 ^ n
    by_cases h : k = n
    · subst h
      rw [if_neg (by omega), if_pos rfl, if_pos (by omega), Int.sub_mul]
      omega
    · rw [if_neg (show ¬ (b + (n : Int) = b + k) by omega)]
      by_cases h2 : k < n
      · rw [if_pos h2, if_pos (by omega)]
        omega
      · rw [if_neg h2, if_neg (by omega)]
theorem rg_of {S : mS} {r x : Int} (h : ru S r x) (ht : S 2 r = 0 ∨ ∀ m : Nat, S 2 r = m + 1 → 65536 ^ m ≤ x) : rg S r x := by
  refine ⟨h, ?_⟩
  obtain ⟨h1, h2, h3, h4⟩ := h
  rcases ht with q | q
  · exact Or.inl q
  · by_cases hz : S 2 r = 0
    · exact Or.inl hz
    · right
      intro q2
      obtain ⟨m, hm⟩ : ∃ m : Nat, S 2 r = m + 1 := ⟨(S 2 r - 1).toNat, by omega⟩
      have h5 := q m hm
      have e1 : (S 2 r).toNat = m + 1 := by omega
      rw [e1] at h4
      have e3 : 440 * r + S 2 r - 1 = 440 * r + m := by omega
      rw [e3] at q2
      have h6 : lv (S 1) (440 * r) (m + 1) = lv (S 1) (440 * r) m + S 1 (440 * r + m) * 65536 ^ m := rfl
      rw [q2] at h6
      have h7 := (lv_bd (f := S 1) (b := 440 * r) (n := m) (fun k a b => h3 k a (by omega))).2
      omega
theorem rg.top {S : mS} {r x : Int} (h : rg S r x) {m : Nat} (hm : S 2 r = m + 1) : 65536 ^ m ≤ x := by
  obtain ⟨⟨h1, h2, h3, h4⟩, h5⟩ := h
  have e1 : (S 2 r).toNat = m + 1 := by omega
  rw [← h4, e1]
  refine lv_top (fun k a b => h3 k a (by omega)) ?_
  rcases h5 with q | q
  · omega
  · have e3 : 440 * r + S 2 r - 1 = 440 * r + m := by omega
    rw [e3] at q
    exact q
theorem rg.lt {S : mS} {r x : Int} (h : ru S r x) : 0 ≤ x ∧ x < 65536 ^ (S 2 r).toNat := by
  obtain ⟨h1, h2, h3, h4⟩ := h
  rw [← h4]
  exact lv_bd (fun k a b => h3 k a (by omega))
theorem p16_pos (n : Nat) : (0 : Int) < 65536 ^ n := Int.pow_pos (by decide)
theorem p16_le {a b : Nat} (h : a ≤ b) : (65536 : Int) ^ a ≤ 65536 ^ b := by
  have h1 : (65536 : Nat) ^ a ≤ 65536 ^ b := Nat.pow_le_pow_right (by decide) h
  have h2 : ((65536 ^ a : Nat) : Int) ≤ ((65536 ^ b : Nat) : Int) := by omega
  rw [Int.natCast_pow, Int.natCast_pow] at h2
  exact h2
theorem rg.size_le {S : mS} {r x : Int} (h : rg S r x) {n : Nat} (hx : x < 65536 ^ n) : S 2 r ≤ n := by
  by_cases hz : S 2 r ≤ n
  · exact hz
  · exfalso
    obtain ⟨m, hm⟩ : ∃ m : Nat, S 2 r = m + 1 := ⟨(S 2 r - 1).toNat, by omega⟩
    have h1 := h.top hm
    have h2 := p16_le (a := n) (b := m) (by omega)
    omega
theorem test_ring (A c P X Y fx fy v q m : Int) (h : A + c * P = X + Y) (hv : v = c + fx + fy) (hm : m + 65536 * q = v) : A + m * P + q * (P * 65536) = X + fx * P + (Y + fy * P) := by
  grind
theorem s_copy {g : mG} {S : mS} {t f x : Int} {Qp : Option mV → mS → Prop} (ht : 0 ≤ t ∧ t < 16) (hf : 0 ≤ f ∧ f < 16) (hne : t ≠ f) (h : rg S f x) (k : ∀ S', rg S' t x → rfr S S' (· = t) → Qp none S') : CX_copy g [mt, mi t, mi f] S Qp := by
  refine of_copy (fun n l1 l2 l3 T => l1 = t ∧ l2 = f ∧ 0 ≤ l3 ∧ l3 ≤ S 2 f ∧ n = (S 2 f - l3).toNat ∧ T 2 = S 2 ∧ (∀ j, 0 ≤ j → j < l3 → T 1 (440 * t + j) = S 1 (440 * f + j)) ∧ rfr S T (· = t)) ?_ ?_
  · intro _ _ _
    exact ⟨_, rfl, rfl, Int.le_refl _, h.1.1, rfl, rfl, fun j a b => by omega, rfr.refl⟩
  · rintro n l1 l2 l3 T hS _ _ _ ⟨rfl, rfl, h1, h2, rfl, h3, h4, h5⟩
    obtain ⟨⟨g1, g2, g3, g4⟩, g5⟩ := h
    refine ⟨by omega, by omega, fun c => ?_, fun c => ?_⟩
    · rw [h3] at c
      have hk : l3 = S 2 l2 := by omega
      subst hk
      refine ⟨by omega, by omega, k _ ⟨⟨?_, ?_, ?_, ?_⟩, ?_⟩ ?_⟩
      · rw [mup_eq, h3]; exact g1
      · rw [mup_eq, h3]; exact g2
      · rw [mup_eq, mupf 1 (by decide), h3]
        intro j a b
        rw [h4 j a b]
        exact g3 j a b
      · rw [mup_eq, mupf 1 (by decide), h3, ← g4]
        exact lv_congr (fun j hj => h4 j (by omega) (by omega))
      · rw [mup_eq, mupf 1 (by decide), h3]
        rcases g5 with q | q
        · exact Or.inl q
        · by_cases hz : S 2 l2 = 0
          · exact Or.inl hz
          · right
            have := h4 (S 2 l2 - 1) (by omega) (by omega)
            rw [show 440 * l1 + S 2 l2 - 1 = 440 * l1 + (S 2 l2 - 1) by omega, this, show 440 * l2 + (S 2 l2 - 1) = 440 * l2 + S 2 l2 - 1 by omega]
            exact q
      · refine h5.trans ⟨fun k a b => mupf k b, fun j hj => ⟨mup_nj hj, fun i _ _ => mup_ne (by decide)⟩⟩
    · rw [h3] at c
      have e1 := (h5.2 l2 (fun q => hne q.symm)).2 (440 * l2 + l3) (by omega) (by omega)
      refine ⟨by omega, by omega, by omega, by omega, by omega, by omega, by omega, by omega, by omega, (S 2 l2 - (l3 + 1)).toNat, by omega, rfl, rfl, by omega, by omega, rfl, ?_, fun j a b => ?_, ?_⟩
      · rw [mupf 2 (by decide)]; exact h3
      · rw [mup_at]
        split
        · rw [e1, show j = l3 by omega]
        · exact h4 j a (by omega)
      · refine h5.trans ⟨fun k a b => mupf k a, fun j hj => ⟨mup_ne (by decide), fun i a b => mup_nj (by omega)⟩⟩

/-! the model's wide numbers: bits, isBit, times, divide -/
set_option maxRecDepth 100000
theorem p16_2 (m : Nat) : (65536 : Int) ^ m = 2 ^ (16 * m) := by
  rw [Int.pow_mul]
  rfl
theorem p2_pos (n : Nat) : (0 : Int) < 2 ^ n := Int.pow_pos (by decide)
/-- z bits: the least z with x < 2 ^ z -/
def blen (x z : Int) : Prop := 0 ≤ z ∧ x < 2 ^ z.toNat ∧ (z = 0 ∨ 2 ^ (z - 1).toNat ≤ x)
def biI (S : mS) (r t : Int) (n : Nat) (l2 l3 : Int) (T : mS) : Prop := T = S ∧ ∃ i : Nat, l3 = 16 * (S 2 r - 1) + i ∧ 0 ≤ l2 ∧ l2 * 2 ^ i ≤ t ∧ t < (l2 + 1) * 2 ^ i ∧ (i = 0 ∨ 2 ^ (i - 1) ≤ t) ∧ i ≤ 16 ∧ n = (l2 + 1).toNat
theorem s_bits {g : mG} {S : mS} {r x : Int} {Qp : Option mV → mS → Prop} (hr : 0 ≤ r ∧ r < 16) (h : rg S r x) (k : ∀ z, blen x z → z ≤ 16 * S 2 r → Qp (some (mi z)) S) : CX_bits g [mt, mi r] S Qp := by
  obtain ⟨⟨g1, g2, g3, g4⟩, g5⟩ := id h
  obtain ⟨t, ht⟩ : ∃ t, t = if S 2 r = 0 then 0 else S 1 (440 * r + S 2 r - 1) := ⟨_, rfl⟩
  by_cases hz : S 2 r = 0
  · rw [if_pos hz] at ht
    have x0 : x = 0 := by
      rw [← g4, hz]; rfl
    refine of_bits (fun n l2 l3 T => T = S ∧ l2 = 0 ∧ l3 = 0) ?_ ?_
    · intro _ _
      refine ⟨by omega, by omega, fun c => absurd hz c, fun _ => ⟨fun c => absurd hz c, fun _ => ⟨0, rfl, rfl, rfl⟩⟩⟩
    · rintro n l2 l3 T hS _ _ ⟨rfl, rfl, rfl⟩
      refine ⟨fun _ => k 0 ⟨Int.le_refl _, by rw [x0]; decide, Or.inl rfl⟩ (by omega), fun c => by omega⟩
  · rw [if_neg hz] at ht
    obtain ⟨m, hm⟩ : ∃ m : Nat, S 2 r = m + 1 := ⟨(S 2 r - 1).toNat, by omega⟩
    have e3 : 440 * r + S 2 r - 1 = 440 * r + m := by omega
    have ht2 := g3 m (by omega) (by omega)
    rw [e3] at ht
    rw [← ht] at ht2
    have hx : x = lv (S 1) (440 * r) m + t * 65536 ^ m := by
      rw [← g4, show (S 2 r).toNat = m + 1 by omega, ht]; rfl
    have hlo := lv_bd (f := S 1) (b := 440 * r) (n := m) (fun j a b => g3 j a (by omega))
    refine of_bits (biI S r t) ?_ ?_
    · intro _ _
      refine ⟨by omega, by omega, fun c => ⟨by omega, by omega, by omega, by omega, by omega, fun c2 => ⟨by omega, by omega, ?_⟩, fun c2 => absurd c c2⟩, fun c => absurd hz c⟩
      rw [e3, ← ht]
      refine ⟨_, rfl, 0, by omega, by omega, by omega, by omega, Or.inl rfl, by omega, rfl⟩
    · rintro n l2 l3 T hS _ _ ⟨rfl, i, rfl, i1, i2, i3, i4, i5, rfl⟩
      have hp := p2_pos i
      refine ⟨fun c => ?_, fun c => ⟨?_, ?_⟩⟩
      · have hl : l2 = 0 := by omega
        subst hl
        have ht3 : t < 2 ^ i := by omega
        refine k _ ⟨by omega, ?_, ?_⟩ (by omega)
        · have e : (16 * (T 2 r - 1) + i).toNat = 16 * m + i := by omega
          rw [e, Int.pow_add, ← p16_2, hx]
          have h1 : (t + 1) * 65536 ^ m ≤ 2 ^ i * 65536 ^ m := Int.mul_le_mul_of_nonneg_right (by omega) (by omega)
          rw [Int.add_mul] at h1
          rw [Int.mul_comm (65536 ^ m) (2 ^ i)]
          omega
        · rcases i4 with q | q
          · have tz : t = 0 := by
              subst q
              have : (2 : Int) ^ 0 = 1 := rfl
              omega
            exfalso
            rcases g5 with z | z
            · exact hz z
            · rw [e3, ← ht] at z
              exact z tz
          · by_cases hi : i = 0
            · subst hi
              exfalso
              have : (2 : Int) ^ 0 = 1 := rfl
              rcases g5 with z | z
              · exact hz z
              · rw [e3, ← ht] at z
                exact z (by omega)
            · right
              have e : (16 * (T 2 r - 1) + i - 1).toNat = 16 * m + (i - 1) := by omega
              rw [e, Int.pow_add, ← p16_2, hx]
              have h1 : 2 ^ (i - 1) * 65536 ^ m ≤ t * 65536 ^ m := Int.mul_le_mul_of_nonneg_right q (by omega)
              rw [Int.mul_comm (65536 ^ m)]
              omega
      · omega
      · have j1 : l2 / 2 * 2 * 2 ^ i ≤ l2 * 2 ^ i := Int.mul_le_mul_of_nonneg_right (by omega) (by omega)
        have j2 : (l2 + 1) * 2 ^ i ≤ (l2 / 2 + 1) * 2 * 2 ^ i := Int.mul_le_mul_of_nonneg_right (by omega) (by omega)
        have j3 : 1 * 2 ^ i ≤ l2 * 2 ^ i := Int.mul_le_mul_of_nonneg_right (by omega) (by omega)
        have e : (2 : Int) ^ (i + 1) = 2 * 2 ^ i := by rw [Int.pow_succ, Int.mul_comm]
        have i6 : i < 16 := by
          rcases Nat.lt_or_ge i 16 with q | q
          · exact q
          · exfalso
            have e16 : i = 16 := by omega
            subst e16
            have : (2 : Int) ^ 16 = 65536 := by decide
            omega
        refine ⟨(l2 / 2 + 1).toNat, by omega, rfl, i + 1, by omega, by omega, ?_, ?_, Or.inr ?_, by omega, rfl⟩
        · rw [e, ← Int.mul_assoc]; omega
        · rw [e, ← Int.mul_assoc]; omega
        · rw [show i + 1 - 1 = i by omega]; omega
theorem lv_dig {f : Int → Int} {b : Int} : ∀ {n j : Nat}, lim f b n → j < n → lv f b n / 65536 ^ j % 65536 = f (b + j) := by
  intro n
  induction n with
  | zero => intro j _ h; omega
  | succ n ih =>
    intro j h hj
    have hl : lim f b n := fun k a c => h k a (by omega)
    have hp := p16_pos j
    show (lv f b n + f (b + n) * 65536 ^ n) / 65536 ^ j % 65536 = _
    by_cases hn : j = n
    · subst hn
      have b1 := lv_bd hl
      have b2 := h j (by omega) (by omega)
      rw [Int.add_mul_ediv_right _ _ (by omega), Int.ediv_eq_zero_of_lt b1.1 b1.2]
      omega
    · have e : (65536 : Int) ^ n = 65536 ^ (n - j - 1) * 65536 * 65536 ^ j := by
        rw [← Int.pow_succ, ← Int.pow_add]
        congr 1
        omega
      rw [e, ← Int.mul_assoc, Int.add_mul_ediv_right _ _ (by omega), ← Int.mul_assoc, Int.add_mul_emod_self_right]
      exact ih hl (by omega)
theorem s_isBit {g : mG} {S : mS} {r x k0 : Int} {Qp : Option mV → mS → Prop} (hr : 0 ≤ r ∧ r < 16) (h : rg S r x) (h0 : 0 ≤ k0) (k : Qp (some (mi (x / 2 ^ k0.toNat % 2))) S) : CX_isBit g [mt, mi r, mi k0] S Qp := by
  obtain ⟨⟨g1, g2, g3, g4⟩, g5⟩ := id h
  refine of_isBit ?_
  intro _ _ _
  have e16 : k0.toNat = 16 * (k0 / 16).toNat + (k0 % 16).toNat := by omega
  refine ⟨by omega, by omega, fun c => ?_, fun c => ⟨by omega, by omega, by omega, by omega, by omega, by omega, ?_⟩⟩
  · have hb := lv_bd (f := S 1) (b := 440 * r) (n := (S 2 r).toNat) (fun j a b => g3 j a (by omega))
    rw [g4] at hb
    have h1 := p16_le (a := (S 2 r).toNat) (b := (k0 / 16).toNat) (by omega)
    have h2 : (65536 : Int) ^ (k0 / 16).toNat ≤ 2 ^ k0.toNat := by
      rw [p16_2, e16, Int.pow_add]
      have := p2_pos (16 * (k0 / 16).toNat)
      have h3 := p2_pos (k0 % 16).toNat
      have h5 : (1 : Int) ≤ 2 ^ (k0 % 16).toNat := by omega
      have h4 := Int.mul_le_mul_of_nonneg_left h5 (Int.le_of_lt this)
      omega
    have e : x / 2 ^ k0.toNat = 0 := Int.ediv_eq_zero_of_lt hb.1 (by omega)
    rw [e] at k
    exact k
  · have hd := lv_dig (f := S 1) (b := 440 * r) (n := (S 2 r).toNat) (j := (k0 / 16).toNat) (fun j a b => g3 j a (by omega)) (by omega)
    rw [g4, show ((k0 / 16).toNat : Int) = k0 / 16 by omega] at hd
    have key : S 1 (440 * r + k0 / 16) / 2 ^ Int.toNat (k0 % 16) % 2 = x / 2 ^ k0.toNat % 2 := by
      rw [← hd, e16, Int.pow_add, ← p16_2, ← Int.ediv_ediv_of_nonneg (by have := p16_pos (k0 / 16).toNat; omega)]
      generalize x / 65536 ^ (k0 / 16).toNat = y
      obtain ⟨i, hi⟩ : ∃ i : Nat, (k0 % 16).toNat = i ∧ i < 16 := ⟨_, rfl, by omega⟩
      obtain ⟨hi1, hi2⟩ := hi
      have e2 : Int.toNat (k0 % 16) = i := hi1
      rw [e2]
      have e3 : (65536 : Int) = 2 ^ i * 2 ^ (16 - i) := by
        rw [← Int.pow_add, show i + (16 - i) = 16 by omega]; decide
      have e4 : (2 : Int) ∣ 2 ^ (16 - i) := ⟨2 ^ (15 - i), by rw [Int.mul_comm, ← Int.pow_succ]; congr 1; omega⟩
      have hq := Int.emod_add_mul_ediv y 65536
      obtain ⟨w, hw⟩ := e4
      have hp := p2_pos i
      have h5 : y = y % 65536 + (2 * w * (y / 65536)) * 2 ^ i := by
        conv => lhs; rw [← hq]
        rw [e3, hw]
        grind
      conv => rhs; rw [h5]
      rw [Int.add_mul_ediv_right _ _ (by omega)]
      rw [Int.mul_assoc, Int.add_mul_emod_self_left]
    rw [key]
    have hz : x / 2 ^ k0.toNat % 2 = 0 ∨ x / 2 ^ k0.toNat % 2 = 1 := by omega
    refine ⟨fun c2 => ?_, fun c2 => ?_⟩
    · rcases hz with q | q
      · rw [q] at k; exact k
      · exact absurd q c2
    · rcases hz with q | q
      · omega
      · rw [q] at k; exact k

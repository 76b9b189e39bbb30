/-! the model's values: in, whole, small, raise -/
set_option maxRecDepth 100000
def b01 (b : Prop) [Decidable b] : Int := if b then 1 else 0
theorem s_in {g : mG} {S : mS} {v lo hi : Int} {Qp : Option mV → mS → Prop} (k : Qp (some (mi (b01 (lo ≤ v ∧ v ≤ hi)))) S) : CX_in g [mi v, mi lo, mi hi] S Qp := by
  unfold b01 at k
  refine of_in ?_
  intro _ _ _ _
  refine ⟨fun c => ?_, fun c => ⟨fun c2 => ?_, fun c2 => ?_⟩⟩
  · rw [if_neg (by omega)] at k; exact k
  · rw [if_neg (by omega)] at k; exact k
  · rw [if_pos (by omega)] at k; exact k
theorem lv_one {b : Int} : ∀ {n : Nat}, 0 < n → lv (fun i => if i = b then 1 else 0) b n = 1 := by
  intro n
  induction n with
  | zero => intro h; omega
  | succ n ih =>
    intro _
    show lv _ b n + (if b + (n : Int) = b then 1 else 0) * 65536 ^ n = 1
    rcases Nat.eq_zero_or_pos n with q | q
    · subst q
      rw [if_pos (by omega)]
      rfl
    · rw [ih q, if_neg (by omega)]
      omega
theorem s_isWhole {g : mG} {S : mS} {v : Int} {q : Rat} {Qp : Option mV → mS → Prop} (hv : rv v) (h : va S v q) (k : Qp (some (mi (b01 (q.den = 1)))) S) : CX_isWhole g [mt, mi v] S Qp := by
  obtain ⟨v1, v2⟩ := id hv
  obtain ⟨-, -, d1, d2⟩ := id h
  have dig := fun (j : Nat) (hj : j < 13) => lv_dig (f := S 3) (b := 28 * v + 14) (n := 13) (j := j) d1 hj
  rw [d2] at dig
  have one : q.den = 1 → S 3 (28 * v + 14) = 1 ∧ ∀ j : Int, 1 ≤ j → j < 13 → S 3 (28 * v + 14 + j) = 0 := by
    intro e
    rw [e] at dig
    refine ⟨?_, fun j a b => ?_⟩
    · have := dig 0 (by decide)
      rw [show 28 * v + 14 + ((0 : Nat) : Int) = 28 * v + 14 by omega] at this
      rw [← this]; decide
    · have := dig j.toNat (by omega)
      rw [show 28 * v + 14 + ((j.toNat : Nat) : Int) = 28 * v + 14 + j by omega] at this
      rw [← this]
      have h1 : (1 : Int) < 65536 ^ j.toNat := by
        have := p16_le (a := 1) (b := j.toNat) (by omega)
        have e1 : (65536 : Int) ^ 1 = 65536 := rfl
        omega
      rw [show ((1 : Nat) : Int) / 65536 ^ j.toNat = 0 from Int.ediv_eq_zero_of_lt (by decide) h1]
      rfl
  have eno : (28 * v + 1 + 13 : Int) = 28 * v + 14 := by omega
  refine of_isWhole (fun n l1 l2 l3 T => T = S ∧ l1 = v ∧ 1 ≤ l3 ∧ l3 ≤ 13 ∧ ((l2 = 0 ∧ q.den ≠ 1) ∨ (l2 = 1 ∧ S 3 (28 * v + 14) = 1 ∧ ∀ j : Int, 1 ≤ j → j < l3 → S 3 (28 * v + 14 + j) = 0)) ∧ n = (13 - l3).toNat) ?_ ?_
  · intro _ _
    rw [eno]
    refine ⟨by omega, by omega, by omega, by omega, by omega, fun c => ⟨_, rfl, rfl, by omega, by omega, Or.inl ⟨rfl, fun e => c (one e).1⟩, rfl⟩, fun c => ⟨_, rfl, rfl, by omega, by omega, Or.inr ⟨rfl, Decidable.not_not.mp c, fun j a b => by omega⟩, rfl⟩⟩
  · rintro n l1 l2 l3 T hS _ _ _ ⟨rfl, rfl, b1, b2, b3, rfl⟩
    have z0 : l2 = 0 → Qp (some (mi l2)) T := by
      intro e
      have : q.den ≠ 1 := by
        rcases b3 with ⟨-, z⟩ | ⟨z, -⟩
        · exact z
        · omega
      unfold b01 at k
      rw [if_neg this] at k
      rw [e]; exact k
    refine ⟨fun c => ⟨by omega, ?_⟩, fun c => ⟨fun c2 => ⟨by omega, z0 c2⟩, fun c2 => ?_⟩⟩
    · rcases b3 with ⟨z, -⟩ | ⟨z, y1, y2⟩
      · exact z0 z
      · have : q.den = 1 := by
          have e : lv (T 3) (28 * l1 + 14) 13 = lv (fun i => if i = 28 * l1 + 14 then 1 else 0) (28 * l1 + 14) 13 := by
            refine lv_congr (fun j hj => ?_)
            split
            · rw [show 28 * l1 + 14 + (j : Int) = 28 * l1 + 14 by omega]; exact y1
            · exact y2 j (by omega) (by omega)
          rw [lv_one (by decide), d2] at e
          omega
        unfold b01 at k
        rw [if_pos this] at k
        rw [z]; exact k
    · rcases b3 with ⟨z, -⟩ | ⟨z, y1, y2⟩
      · exact absurd z c2
      · rw [eno]
        refine ⟨by omega, by omega, by omega, by omega, by omega, by omega, fun c3 => ⟨by omega, _, ?_, rfl, rfl, by omega, by omega, Or.inl ⟨rfl, fun e => c3 ((one e).2 l3 b1 (by omega))⟩, rfl⟩, fun c3 => ⟨by omega, _, ?_, rfl, rfl, by omega, by omega, Or.inr ⟨rfl, y1, fun j a b => ?_⟩, rfl⟩⟩
        · omega
        · omega
        · by_cases hj : j = l3
          · subst hj; exact Decidable.not_not.mp c3
          · exact y2 j a (by omega)
/-- a number as small tells it: itself, or something far away with its sign -/
def smallOf (z : Int) : Int := if z.natAbs < 1073741824 then z else z.sign * 1073741824
theorem s_small {g : mG} {S : mS} {v : Int} {q : Rat} {Qp : Option mV → mS → Prop} (hv : rv v) (h : va S v q) (k : ∀ S', vfr S S' (fun _ => False) → Qp (some (mi (smallOf q.num))) S') : CX_small g [mt, mi v] S Qp := by
  have sp := sg3.of q.num
  have ep := sgn_abs q.num
  refine of_small ?_
  intro _ _
  refine s_loadN (by decide) hv h (fun S1 h1 z1 f1 => ?_)
  intro _
  have v1 : vfr S S1 (fun _ => False) := f1.v
  refine s_bits (by decide) h1 (fun z hz hz2 => ?_)
  intro _ _
  have hv1 := h.keep v1 (NF v)
  obtain ⟨⟨g1, g2, g3, g4⟩, g5⟩ := id h1
  have K := k S1 v1
  unfold smallOf at K
  have e30 : (2 : Int) ^ 30 = 1073741824 := by decide
  refine ⟨fun c => ?_, fun c => ?_⟩
  · have small : q.num.natAbs < 1073741824 := by
      have : (2 : Int) ^ z.toNat ≤ 2 ^ 30 := by
        have h3 : (2 : Nat) ^ z.toNat ≤ 2 ^ 30 := Nat.pow_le_pow_right (by decide) (by omega)
        have h4 : ((2 ^ z.toNat : Nat) : Int) ≤ ((2 ^ 30 : Nat) : Int) := Int.ofNat_le.mpr h3
        rw [Int.natCast_pow] at h4
        exact h4
      have := hz.2.1
      omega
    rw [if_pos small] at K
    have sz : S1 2 2 ≤ 2 := by
      have e : (65536 : Int) ^ 2 = 4294967296 := by decide
      have := h1.size_le (n := 2) (by omega)
      omega
    have fin : ∀ w : Int, w = q.num.natAbs → ∀ s : Int, s = q.num.sign → (0 ≤ s → Qp (some (mi w)) S1) ∧ (¬ 0 ≤ s → Qp (some (mi (-w))) S1) := by
      rintro w rfl s rfl
      refine ⟨fun c1 => ?_, fun c1 => ?_⟩
      · have : (q.num.natAbs : Int) = q.num := by
          rcases sp.1 with y | y | y
          · rw [y] at ep; omega
          · omega
          · have := sp.2.mp y; omega
        rw [this]; exact K
      · have : -(q.num.natAbs : Int) = q.num := by
          rcases sp.1 with y | y | y
          · omega
          · rw [y] at ep; omega
          · omega
        rw [this]; exact K
    have val : ∀ m : Nat, S1 2 2 = m → lv (S1 1) (440 * 2) m = q.num.natAbs := fun m hm => by rw [← g4, show (S1 2 2).toNat = m by omega]
    have e880 : (440 * 2 + ((0 : Nat) : Int)) = 880 := by decide
    have e881 : (440 * 2 + ((1 : Nat) : Int)) = 881 := by decide
    refine ⟨fun c1 => ⟨fun c2 => ?_, fun c2 => by omega⟩, fun c1 => ⟨fun c2 => ?_, fun c2 => ?_⟩⟩
    · have := val 0 (by omega)
      have e : (0 : Int) = q.num.natAbs := this
      refine s_sign hv hv1 ?_
      intro _ _
      exact fin (0 + 0) (by omega) _ rfl
    · have := val 1 (by omega)
      have e : (0 : Int) + S1 1 (440 * 2 + ((0 : Nat) : Int)) * 1 = q.num.natAbs := this
      rw [e880] at e
      refine ⟨by omega, ?_⟩
      refine s_sign hv hv1 ?_
      intro _ _
      have := fin (S1 1 880 + 0) (by omega) _ rfl
      exact ⟨this.1, fun y => ⟨by omega, this.2 y⟩⟩
    · have := val 2 (by omega)
      have e : ((0 : Int) + S1 1 (440 * 2 + ((0 : Nat) : Int)) * 1) + S1 1 (440 * 2 + ((1 : Nat) : Int)) * 65536 ^ 1 = q.num.natAbs := this
      have y0 := g3 0 (by omega) (by omega)
      have y1 := g3 1 (by omega) (by omega)
      rw [e880, e881] at e
      rw [show (440 * 2 + (1 : Int)) = 881 by decide] at y1
      rw [show (440 * 2 + (0 : Int)) = 880 by decide] at y0
      have e2 : (65536 : Int) ^ 1 = 65536 := rfl
      rw [e2] at e
      refine ⟨by omega, by omega, by omega, ?_⟩
      refine s_sign hv hv1 ?_
      intro _ _
      have := fin (S1 1 880 + S1 1 881 * 65536) (by omega) _ rfl
      exact ⟨this.1, fun y => ⟨by omega, this.2 y⟩⟩
  · have large : ¬ q.num.natAbs < 1073741824 := by
      intro y
      rcases hz.2.2 with w | w
      · omega
      · have h3 : (2 : Nat) ^ 30 ≤ 2 ^ (z - 1).toNat := Nat.pow_le_pow_right (by decide) (by omega)
        have h4 : ((2 ^ 30 : Nat) : Int) ≤ ((2 ^ (z - 1).toNat : Nat) : Int) := Int.ofNat_le.mpr h3
        rw [Int.natCast_pow, Int.natCast_pow] at h4
        have h5 : (2 : Int) ^ 30 ≤ 2 ^ (z - 1).toNat := h4
        omega
    rw [if_neg large] at K
    refine s_sign hv hv1 ?_
    intro _ _
    refine ⟨fun y => ?_, fun y => ?_⟩
    · have : q.num.sign = 1 := by
        have := sp.1
        have := sp.2
        omega
      rw [this] at K
      exact K
    · have : q.num.sign = -1 := by
        have := sp.1
        omega
      rw [this] at K
      exact K

/-! the model's values: times, by, plus, compare, whole, small -/
set_option maxRecDepth 100000
theorem mul_sz {S : mS} {r s : Int} {x y : Nat} (h : rg S r x) (h' : rg S s y) (a : S 2 r ≤ 13) (b : S 2 s ≤ 13) : ((x * y : Nat) : Int) < 65536 ^ 26 := by
  have h1 := (rg.lt h.1).2
  have h2 := (rg.lt h'.1).2
  have g1 := h.1.1
  have g2 := h'.1.1
  have h3 := p16_le (a := (S 2 r).toNat) (b := 13) (by omega)
  have h4 := p16_le (a := (S 2 s).toNat) (b := 13) (by omega)
  have h5 : (x : Int) < 65536 ^ 13 := by omega
  have h6 : (y : Int) < 65536 ^ 13 := by omega
  have h7 : (x : Int) * y < 65536 ^ 13 * 65536 ^ 13 := by
    have p1 : (x : Int) * y ≤ x * 65536 ^ 13 := Int.mul_le_mul_of_nonneg_left (by omega) (by omega)
    have p2 : (x : Int) * 65536 ^ 13 < 65536 ^ 13 * 65536 ^ 13 := Int.mul_lt_mul_of_pos_right h5 (p16_pos 13)
    omega
  rw [← Int.pow_add] at h7
  rw [Int.natCast_mul]
  exact h7
theorem sgn_mul {a b : Int} : a.sign * b.sign = 1 ∨ a.sign * b.sign = -1 ∨ a.natAbs * b.natAbs = 0 := by
  rcases Int.lt_trichotomy a 0 with q | q | q
  · rcases Int.lt_trichotomy b 0 with p | p | p
    · left; rw [Int.sign_eq_neg_one_of_neg q, Int.sign_eq_neg_one_of_neg p]; rfl
    · right; right; subst p; simp
    · right; left; rw [Int.sign_eq_neg_one_of_neg q, Int.sign_eq_one_of_pos p]; rfl
  · right; right; subst q; simp
  · rcases Int.lt_trichotomy b 0 with p | p | p
    · right; left; rw [Int.sign_eq_one_of_pos q, Int.sign_eq_neg_one_of_neg p]; rfl
    · right; right; subst p; simp
    · left; rw [Int.sign_eq_one_of_pos q, Int.sign_eq_one_of_pos p]; rfl
theorem sgn_abs (a : Int) : a.sign * (a.natAbs : Int) = a := Int.sign_mul_natAbs a
theorem s_multiplyValues {g : mG} {S : mS} {t a b : Int} {p q : Rat} {Qp : Option mV → mS → Prop} (ht : rv t) (ha : rv a) (hb : rv b) (h : va S a p) (h' : va S b q)
    (k1 : fitQ (p * q) → ∀ S', va S' t (p * q) → vfr S S' (· = t) → Qp (some (mi 1)) S') (k0 : ¬ fitQ (p * q) → ∀ S', vfr S S' (fun _ => False) → Qp (some (mi 0)) S') : CX_multiplyValues g [mt, mi t, mi a, mi b] S Qp := by
  refine of_multiplyValues ?_
  intro _ _ _ _
  have NF : ∀ u : Int, ¬ (fun _ : Int => False) u := fun _ z => z
  refine s_loadN (by decide) ha h (fun S1 h1 z1 f1 => ?_)
  intro _
  have v1 : vfr S S1 (fun _ => False) := f1.v
  refine s_loadD (by decide) ha (h.keep v1 (NF a)) (fun S2 h2 z2 f2 => ?_)
  intro _
  have v2 := v1.trans f2.v
  refine s_loadN (by decide) hb (h'.keep v2 (NF b)) (fun S3 h3 z3 f3 => ?_)
  intro _
  have v3 := v2.trans f3.v
  refine s_loadD (by decide) hb (h'.keep v3 (NF b)) (fun S4 h4 z4 f4 => ?_)
  intro _
  have v4 := v3.trans f4.v
  have r2 : rg S4 2 p.num.natAbs := ((h1.keep f2 (by decide)).keep f3 (by decide)).keep f4 (by decide)
  have r3 : rg S4 3 p.den := (h2.keep f3 (by decide)).keep f4 (by decide)
  have r4 : rg S4 4 q.num.natAbs := h3.keep f4 (by decide)
  have e2 : S4 2 2 ≤ 13 := by rw [(f4.2 2 (by decide)).1, (f3.2 2 (by decide)).1, (f2.2 2 (by decide)).1]; exact z1
  have e3 : S4 2 3 ≤ 13 := by rw [(f4.2 3 (by decide)).1, (f3.2 3 (by decide)).1]; exact z2
  have e4 : S4 2 4 ≤ 13 := by rw [(f4.2 4 (by decide)).1]; exact z3
  have m1 := mul_sz r2 r4 e2 e4
  have m2 := mul_sz r3 h4 e3 z4
  refine s_times (by decide) (by decide) (by decide) (by decide) (by decide) r2.1 r4.1 (by omega) (fun S5 h5 f5 => ?_)
  intro _
  have e3' : S5 2 3 ≤ 13 := by rw [(f5.2 3 (by decide)).1]; exact e3
  have e5' : S5 2 5 ≤ 13 := by rw [(f5.2 5 (by decide)).1]; exact z4
  refine s_times (by decide) (by decide) (by decide) (by decide) (by decide) (r3.keep f5 (by decide)).1 (h4.keep f5 (by decide)).1 (by omega) (fun S6 h6 f6 => ?_)
  intro _
  have v6 := (v4.trans f5.v).trans f6.v
  refine s_sign ha (h.keep v6 (NF a)) ?_
  intro _ _
  refine s_sign hb (h'.keep v6 (NF b)) ?_
  intro _ _
  rw [← Int.natCast_mul] at h5 h6
  have h5' := h5.keep f6 (by decide)
  have sg := sgn_mul (a := p.num) (b := q.num)
  have eq : mkRat (p.num.sign * q.num.sign * ((p.num.natAbs * q.num.natAbs : Nat) : Int)) (p.den * q.den) = p * q := by
    rw [Rat.mul_def']
    congr 1
    rw [Int.natCast_mul]
    have := sgn_abs p.num
    have := sgn_abs q.num
    grind
  have sz0 : S6 2 0 < 440 := by have := h5'.size_le (n := 26) m1; omega
  have sz1 : S6 2 1 < 440 := by have := h6.size_le (n := 26) m2; omega
  have d1 := p.den_nz
  have d2 := q.den_nz
  have sgb : -2147483648 ≤ p.num.sign * q.num.sign ∧ p.num.sign * q.num.sign ≤ 2147483647 := by
    rcases sg with z | z | z
    · omega
    · omega
    · have : p.num.sign * q.num.sign = 0 := by
        rcases Nat.mul_eq_zero.mp z with w | w
        · rw [show p.num = 0 by omega]; simp
        · rw [show q.num = 0 by omega]; simp
      omega
  refine ⟨sgb, ?_⟩
  refine s_store (x := p.num.natAbs * q.num.natAbs) (y := p.den * q.den) ht h5' h6 (Nat.mul_pos (by omega) (by omega)) sg ⟨sz0, sz1⟩ ?_ ?_
  · rw [eq]
    intro hf S7 h7 f7
    intro _ _
    exact ⟨Or.inr rfl, k1 hf S7 h7 ((v6.mono (fun _ z => z.elim)).trans f7)⟩
  · rw [eq]
    intro hf S7 f7
    intro _ _
    exact ⟨Or.inl rfl, k0 hf S7 (v6.trans f7)⟩

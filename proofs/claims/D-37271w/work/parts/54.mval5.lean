/-! the model's values: plus, compare, whole, small -/
set_option maxRecDepth 100000
theorem sg3_mul {s : Int} {x n : Nat} (h : sg3 s x) (hn : 0 < n) : sg3 s (x * n) := by
  obtain ⟨h1, h2⟩ := h
  refine ⟨h1, ?_⟩
  rw [h2]
  constructor
  · intro q; rw [q, Nat.zero_mul]
  · intro q
    rcases Nat.mul_eq_zero.mp q with z | z
    · exact z
    · omega
theorem sg3_by {s b : Int} {x : Nat} (h : sg3 s x) (hb : b = 1 ∨ b = -1) : sg3 (b * s) x := by
  obtain ⟨h1, h2⟩ := h
  rcases hb with rfl | rfl
  · rw [Int.one_mul]; exact ⟨h1, h2⟩
  · rw [Int.neg_one_mul]; exact ⟨by omega, by omega⟩
theorem s_addValues {g : mG} {S : mS} {t a b w : Int} {p q : Rat} {Qp : Option mV → mS → Prop} (hw : w = 1 ∨ w = -1) (ht : rv t) (ha : rv a) (hb : rv b) (h : va S a p) (h' : va S b q)
    (k1 : fitQ (p + w * q) → ∀ S', va S' t (p + w * q) → vfr S S' (· = t) → Qp (some (mi 1)) S') (k0 : ¬ fitQ (p + w * q) → ∀ S', vfr S S' (fun _ => False) → Qp (some (mi 0)) S') : CX_addValues g [mt, mi t, mi a, mi b, mi w] S Qp := by
  refine of_addValues ?_
  intro _ _ _ _ _
  have d1 := p.den_nz
  have d2 := q.den_nz
  refine ld4 ha hb h h' (fun T r2 r3 r4 r5 e2 e3 e4 e5 v4 _ => ?_)
  refine tm13 (by decide) (by decide) (by decide) (by decide) (by decide) r2 r5 e2 e5 (fun S5 h5 z5 f5 => ?_)
  refine tm13 (by decide) (by decide) (by decide) (by decide) (by decide) (r4.keep f5 (by decide)) (r3.keep f5 (by decide)) (by rw [(f5.2 4 (by decide)).1]; exact e4) (by rw [(f5.2 3 (by decide)).1]; exact e3) (fun S6 h6 z6 f6 => ?_)
  refine tm13 (by decide) (by decide) (by decide) (by decide) (by decide) ((r3.keep f5 (by decide)).keep f6 (by decide)) ((r5.keep f5 (by decide)).keep f6 (by decide)) (by rw [(f6.2 3 (by decide)).1, (f5.2 3 (by decide)).1]; exact e3) (by rw [(f6.2 5 (by decide)).1, (f5.2 5 (by decide)).1]; exact e5) (fun S7 h7 z7 f7 => ?_)
  have v7 := ((v4.trans f5.v).trans f6.v).trans f7.v
  refine s_sign ha (h.keep v7 (NF a)) ?_
  intro _ _
  refine s_sign hb (h'.keep v7 (NF b)) ?_
  intro _ _
  have h5' := (h5.keep f6 (by decide)).keep f7 (by decide)
  have h6' := h6.keep f7 (by decide)
  have q1 := sg3_mul (sg3.of p.num) (n := q.den) (by omega)
  have q2 := sg3_by (sg3_mul (sg3.of q.num) (n := p.den) (by omega)) hw
  have b2 : w * q.num.sign = 1 ∨ w * q.num.sign = -1 ∨ w * q.num.sign = 0 := q2.1
  refine ⟨by omega, ?_⟩
  refine s_signed (by decide) (by decide) (by decide) h5' h6' q1 q2 ⟨by rw [(f7.2 6 (by decide)).1, (f6.2 6 (by decide)).1]; omega, by rw [(f7.2 7 (by decide)).1]; omega⟩ (fun S8 h8 f8 => ?_)
  intro _ _
  have bd : (p.num.sign * ((p.num.natAbs * q.den : Nat) : Int) + w * q.num.sign * ((q.num.natAbs * p.den : Nat) : Int)) = p.num * q.den + w * q.num * p.den := by
    rw [Int.natCast_mul, Int.natCast_mul]
    have := sgn_abs p.num
    have := sgn_abs q.num
    grind
  rw [bd] at h8 ⊢
  refine s_copy (by decide) (by decide) (by decide) h8 (fun S9 h9 f9 => ?_)
  intro _
  have h7' := (h7.keep f8 (by decide)).keep f9 (by decide)
  have v9 := (v7.trans f8.v).trans f9.v
  have sz0 : S9 2 0 < 440 := by
    have p1 := (rg.lt h5'.1).2
    have p2 := (rg.lt h6'.1).2
    have y1 : S7 2 6 ≤ 26 := by rw [(f7.2 6 (by decide)).1, (f6.2 6 (by decide)).1]; exact z5
    have y2 : S7 2 7 ≤ 26 := by rw [(f7.2 7 (by decide)).1]; exact z6
    have y3 := p16_le (a := (S7 2 6).toNat) (b := 26) (by omega)
    have y4 := p16_le (a := (S7 2 7).toNat) (b := 26) (by omega)
    have y5 : (65536 : Int) ^ 27 = 65536 ^ 26 * 65536 := Int.pow_succ _ _
    have y6 := p16_pos 26
    have tri : ((p.num * q.den + w * q.num * p.den).natAbs : Int) ≤ ((p.num.natAbs * q.den : Nat) : Int) + ((q.num.natAbs * p.den : Nat) : Int) := by
      have u1 : (p.num * q.den).natAbs = p.num.natAbs * q.den := by rw [Int.natAbs_mul]; rfl
      have u2 : (w * q.num * p.den).natAbs = q.num.natAbs * p.den := by
        rw [Int.natAbs_mul, Int.natAbs_mul]
        rcases hw with rfl | rfl
        · simp
        · simp
      have := Int.natAbs_add_le (p.num * q.den) (w * q.num * p.den)
      omega
    have := h9.size_le (n := 27) (by omega)
    omega
  have sz1 : S9 2 1 < 440 := by rw [(f9.2 1 (by decide)).1, (f8.2 1 (by decide)).1]; omega
  have eq : mkRat ((p.num * q.den + w * q.num * p.den).sign * (((p.num * q.den + w * q.num * p.den).natAbs : Nat) : Int)) (p.den * q.den) = p + w * q := by
    rw [sgn_abs]
    rcases hw with rfl | rfl
    · have e : ((1 : Int) : Rat) * q = q := by rw [Rat.intCast_one, Rat.one_mul]
      rw [e, Rat.add_def', Int.one_mul]
    · have e : ((-1 : Int) : Rat) * q = -q := by
        rw [Rat.intCast_neg, Rat.intCast_one, Rat.neg_mul, Rat.one_mul]
      rw [e, ← Rat.sub_eq_add_neg, Rat.sub_def']
      congr 1
      grind
  have sg0 := sg3.of (p.num * q.den + w * q.num * p.den)
  refine s_store ht h9 h7' (Nat.mul_pos (by omega) (by omega)) (by have := sg0.1; have := sg0.2; omega) ⟨sz0, sz1⟩ ?_ ?_
  · rw [eq]
    intro hf S10 h10 f10
    intro _ _
    exact ⟨Or.inr rfl, k1 hf S10 h10 ((v9.mono (fun _ z => z.elim)).trans f10)⟩
  · rw [eq]
    intro hf S10 f10
    intro _ _
    exact ⟨Or.inl rfl, k0 hf S10 (v9.trans f10)⟩
theorem rat_lt {p q : Rat} : p < q ↔ p.num * q.den < q.num * p.den := Rat.lt_iff p q
theorem rat_eq {p q : Rat} : p = q ↔ p.num * q.den = q.num * p.den := by
  constructor
  · intro h; rw [h]
  · intro h
    have d1 := p.den_nz
    have d2 := q.den_nz
    rw [← Rat.mkRat_self p, ← Rat.mkRat_self q, Rat.mkRat_eq_iff d1 d2]
    exact h
theorem s_compareValues {g : mG} {S : mS} {a b : Int} {p q : Rat} {Qp : Option mV → mS → Prop} (ha : rv a) (hb : rv b) (h : va S a p) (h' : va S b q)
    (k : ∀ z S', (z < 0 ↔ p < q) → (z = 0 ↔ p = q) → vfr S S' (fun _ => False) → Qp (some (mi z)) S') : CX_compareValues g [mt, mi a, mi b] S Qp := by
  have d1 := p.den_nz
  have d2 := q.den_nz
  have sp := sg3.of p.num
  have sq := sg3.of q.num
  have ep := sgn_abs p.num
  have eqq := sgn_abs q.num
  refine of_compareValues ?_
  intro _ _ _
  refine s_sign ha h ?_
  intro _ _
  refine s_sign hb h' ?_
  intro _ _
  refine ⟨fun c => ?_, fun c => ?_⟩
  · refine ld4 ha hb h h' (fun T r2 r3 r4 r5 e2 e3 e4 e5 v4 _ => ?_)
    refine tm13 (by decide) (by decide) (by decide) (by decide) (by decide) r2 r5 e2 e5 (fun S5 h5 z5 f5 => ?_)
    refine tm13 (by decide) (by decide) (by decide) (by decide) (by decide) (r4.keep f5 (by decide)) (r3.keep f5 (by decide)) (by rw [(f5.2 4 (by decide)).1]; exact e4) (by rw [(f5.2 3 (by decide)).1]; exact e3) (fun S6 h6 z6 f6 => ?_)
    have v6 := (v4.trans f5.v).trans f6.v
    refine s_sign ha (h.keep v6 (NF a)) ?_
    intro _ _
    refine s_compareB (by decide) (by decide) (h5.keep f6 (by decide)) h6 (fun z hz1 hz2 hzb => ?_)
    intro _ hz3
    have key : (p.num.sign * z < 0 ↔ p < q) ∧ (p.num.sign * z = 0 ↔ p = q) := by
      rw [rat_lt, rat_eq]
      rw [Int.ofNat_lt] at hz1
      have hz2' : z = 0 ↔ p.num.natAbs * q.den = q.num.natAbs * p.den := by omega
      rcases sp.1 with w | w | w
      · have w2 : q.num.sign = 1 := by omega
        rw [w, Int.one_mul] at ep
        rw [w2, Int.one_mul] at eqq
        rw [w, Int.one_mul, ← ep, ← eqq, ← Int.natCast_mul, ← Int.natCast_mul, Int.ofNat_lt, hz1, hz2']
        exact ⟨Iff.rfl, by omega⟩
      · have w2 : q.num.sign = -1 := by omega
        rw [w, Int.neg_one_mul] at ep
        rw [w2, Int.neg_one_mul] at eqq
        rw [w, Int.neg_one_mul, ← ep, ← eqq, Int.neg_mul, Int.neg_mul, ← Int.natCast_mul, ← Int.natCast_mul]
        omega
      · have w2 : q.num.sign = 0 := by omega
        rw [w, Int.zero_mul] at ep
        rw [w2, Int.zero_mul] at eqq
        rw [w, Int.zero_mul, ← ep, ← eqq]
        simp
    refine ⟨?_, k _ S6 key.1 key.2 v6⟩
    rcases sp.1 with w | w | w
    · rw [w, Int.one_mul]; exact hz3
    · rw [w, Int.neg_one_mul]
      omega
    · rw [w, Int.zero_mul]; omega
  · refine s_sign ha h ?_
    intro _ _
    refine s_sign hb h' ?_
    intro _ _
    have neq : (q.num.sign < p.num.sign → ¬ p < q ∧ p ≠ q) ∧ (p.num.sign < q.num.sign → p < q ∧ p ≠ q) := by
      rw [rat_lt, ne_eq, rat_eq]
      have m1 : 0 ≤ (p.num.natAbs : Int) * q.den := Int.mul_nonneg (by omega) (by omega)
      have m2 : 0 ≤ (q.num.natAbs : Int) * p.den := Int.mul_nonneg (by omega) (by omega)
      have n1 : p.num.natAbs ≠ 0 → 0 < (p.num.natAbs : Int) * q.den := fun z => Int.mul_pos (by omega) (by omega)
      have n2 : q.num.natAbs ≠ 0 → 0 < (q.num.natAbs : Int) * p.den := fun z => Int.mul_pos (by omega) (by omega)
      have sp2 := sp.2
      have sq2 := sq.2
      have e1 : p.num * q.den = p.num.sign * ((p.num.natAbs : Int) * q.den) := by rw [← Int.mul_assoc, ep]
      have e2 : q.num * p.den = q.num.sign * ((q.num.natAbs : Int) * p.den) := by rw [← Int.mul_assoc, eqq]
      rw [e1, e2]
      clear e1 e2 ep eqq
      generalize (p.num.natAbs : Int) * q.den = X at *
      generalize (q.num.natAbs : Int) * p.den = Y at *
      generalize p.num.natAbs = x at *
      generalize q.num.natAbs = y at *
      generalize p.num.sign = s1 at *
      generalize q.num.sign = s2 at *
      rcases sp.1 with rfl | rfl | rfl <;> rcases sq.1 with rfl | rfl | rfl <;> omega
    refine ⟨fun c2 => ?_, fun c2 => ?_⟩
    · have := neq.1 (by omega)
      exact k 1 S ⟨fun z => absurd z (by decide), fun z => absurd z this.1⟩ ⟨fun z => absurd z (by decide), fun z => absurd z this.2⟩ vfr.refl
    · have := neq.2 (by omega)
      exact k (-1) S ⟨fun _ => this.1, fun _ => by decide⟩ ⟨fun z => absurd z (by decide), fun z => absurd z this.2⟩ vfr.refl

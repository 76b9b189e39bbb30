/-! the model's values: by, signed, plus, compare -/
set_option maxRecDepth 100000
theorem NF (u : Int) : ¬ (fun _ : Int => False) u := fun z => z
theorem ld4 {g : mG} {S : mS} {a b : Int} {p q : Rat} {K : mS → Prop} (ha : rv a) (hb : rv b) (h : va S a p) (h' : va S b q)
    (k : ∀ T, rg T 2 p.num.natAbs → rg T 3 p.den → rg T 4 q.num.natAbs → rg T 5 q.den → T 2 2 ≤ 13 → T 2 3 ≤ 13 → T 2 4 ≤ 13 → T 2 5 ≤ 13 → vfr S T (fun _ => False) → rfr S T (fun j => 2 ≤ j ∧ j ≤ 5) → K T) :
    CX_loadNumerator g [mt, mi 2, mi a] S (Qv fun S1 => mI S1 → CX_loadDenominator g [mt, mi 3, mi a] S1 (Qv fun S2 => mI S2 → CX_loadNumerator g [mt, mi 4, mi b] S2 (Qv fun S3 => mI S3 → CX_loadDenominator g [mt, mi 5, mi b] S3 (Qv fun S4 => mI S4 → K S4)))) := by
  refine s_loadN (by decide) ha h (fun S1 h1 z1 f1 => ?_)
  intro _
  have v1 : vfr S S1 (fun _ => False) := f1.v
  refine s_loadD (by decide) ha (h.keep v1 (NF a)) (fun S2 h2 z2 f2 => ?_)
  intro _
  have v2 := v1.trans f2.v
  refine s_loadN (by decide) hb (h'.keep v2 (NF b)) (fun S3 h3 z3 f3 => ?_)
  intro _
  have v3 := v2.trans f3.v
  refine s_loadD (by decide) hb (h'.keep v3 (NF b)) (fun S4 h4 z4 f4 => ?_)
  intro _
  refine k S4 (((h1.keep f2 (by decide)).keep f3 (by decide)).keep f4 (by decide)) ((h2.keep f3 (by decide)).keep f4 (by decide)) (h3.keep f4 (by decide)) h4 ?_ ?_ ?_ z4 (v3.trans f4.v) ?_
  · rw [(f4.2 2 (by decide)).1, (f3.2 2 (by decide)).1, (f2.2 2 (by decide)).1]; exact z1
  · rw [(f4.2 3 (by decide)).1, (f3.2 3 (by decide)).1]; exact z2
  · rw [(f4.2 4 (by decide)).1]; exact z3
  · exact (((f1.mono (fun j q => by omega)).trans (f2.mono (fun j q => by omega))).trans (f3.mono (fun j q => by omega))).trans (f4.mono (fun j q => by omega))
/-- t becomes the product of two registers of 13 limbs at most -/
theorem tm13 {g : mG} {S : mS} {t r s : Int} {x y : Nat} {K : mS → Prop} (ht : 0 ≤ t ∧ t < 16) (hr : 0 ≤ r ∧ r < 16) (hs : 0 ≤ s ∧ s < 16) (h1 : t ≠ r) (h2 : t ≠ s) (h : rg S r x) (h' : rg S s y) (a : S 2 r ≤ 13) (b : S 2 s ≤ 13)
    (k : ∀ T, rg T t (x * y : Nat) → T 2 t ≤ 26 → rfr S T (· = t) → K T) : CX_times g [mt, mi t, mi r, mi s] S (Qv fun T => mI T → K T) := by
  have m1 := mul_sz h h' a b
  refine s_times ht hr hs h1 h2 h.1 h'.1 (by omega) (fun T h5 f5 => ?_)
  intro _
  rw [← Int.natCast_mul] at h5
  exact k T h5 (by have := h5.size_le (n := 26) m1; omega) f5
theorem s_divideValues {g : mG} {S : mS} {t a b : Int} {p q : Rat} {Qp : Option mV → mS → Prop} (ht : rv t) (ha : rv a) (hb : rv b) (h : va S a p) (h' : va S b q) (hq : q ≠ 0)
    (k1 : fitQ (p / q) → ∀ S', va S' t (p / q) → vfr S S' (· = t) → Qp (some (mi 1)) S') (k0 : ¬ fitQ (p / q) → ∀ S', vfr S S' (fun _ => False) → Qp (some (mi 0)) S') : CX_divideValues g [mt, mi t, mi a, mi b] S Qp := by
  refine of_divideValues ?_
  intro _ _ _ _
  refine ld4 ha hb h h' (fun T r2 r3 r4 r5 e2 e3 e4 e5 v4 _ => ?_)
  refine tm13 (by decide) (by decide) (by decide) (by decide) (by decide) r2 r5 e2 e5 (fun S5 h5 z5 f5 => ?_)
  refine tm13 (by decide) (by decide) (by decide) (by decide) (by decide) (r3.keep f5 (by decide)) (r4.keep f5 (by decide)) (by rw [(f5.2 3 (by decide)).1]; exact e3) (by rw [(f5.2 4 (by decide)).1]; exact e4) (fun S6 h6 z6 f6 => ?_)
  have v6 := (v4.trans f5.v).trans f6.v
  refine s_sign ha (h.keep v6 (NF a)) ?_
  intro _ _
  refine s_sign hb (h'.keep v6 (NF b)) ?_
  intro _ _
  have h5' := h5.keep f6 (by decide)
  have q0 : q.num ≠ 0 := fun z => hq (Rat.num_eq_zero.mp z)
  have d1 := p.den_nz
  have d2 := q.den_nz
  have sg : p.num.sign * q.num.sign = 1 ∨ p.num.sign * q.num.sign = -1 ∨ p.num.natAbs * q.den = 0 := by
    rcases sgn_mul (a := p.num) (b := q.num) with z | z | z
    · exact Or.inl z
    · exact Or.inr (Or.inl z)
    · rcases Nat.mul_eq_zero.mp z with w | w
      · right; right; rw [w, Nat.zero_mul]
      · omega
  have sgb : -2147483648 ≤ p.num.sign * q.num.sign ∧ p.num.sign * q.num.sign ≤ 2147483647 := by
    rcases sg with z | z | z
    · omega
    · omega
    · rcases Nat.mul_eq_zero.mp z with w | w
      · rw [show p.num = 0 by omega]; simp
      · omega
  have eq : mkRat (p.num.sign * q.num.sign * ((p.num.natAbs * q.den : Nat) : Int)) (p.den * q.num.natAbs) = p / q := by
    rw [Rat.div_def, Rat.inv_def, Rat.mul_comm]
    conv => rhs; rw [← Rat.mkRat_self p]
    have e1 : Rat.divInt (q.den : Int) q.num = mkRat (q.num.sign * q.den) q.num.natAbs := by
      rcases Int.lt_trichotomy q.num 0 with c | c | c
      · have e : q.num = -((q.num.natAbs : Nat) : Int) := by omega
        rw [Int.sign_eq_neg_one_of_neg c]
        conv => lhs; rw [e]
        rw [Rat.divInt_neg', Rat.divInt_ofNat]
        congr 1
        omega
      · exact absurd c q0
      · have e : q.num = ((q.num.natAbs : Nat) : Int) := by omega
        rw [Int.sign_eq_one_of_pos c]
        conv => lhs; rw [e]
        rw [Rat.divInt_ofNat]
        congr 1
        omega
    rw [e1, Rat.mkRat_mul_mkRat]
    congr 1
    · rw [Int.natCast_mul]
      have := sgn_abs p.num
      grind
    · exact Nat.mul_comm _ _
  refine ⟨sgb, ?_⟩
  refine s_store (x := p.num.natAbs * q.den) (y := p.den * q.num.natAbs) ht h5' h6 (Nat.mul_pos (by omega) (by omega)) sg ⟨by rw [(f6.2 0 (by decide)).1]; omega, by omega⟩ ?_ ?_
  · rw [eq]
    intro hf S7 h7 f7
    intro _ _
    exact ⟨Or.inr rfl, k1 hf S7 h7 ((v6.mono (fun _ z => z.elim)).trans f7)⟩
  · rw [eq]
    intro hf S7 f7
    intro _ _
    exact ⟨Or.inl rfl, k0 hf S7 (v6.trans f7)⟩
def sg3 (s : Int) (x : Nat) : Prop := (s = 1 ∨ s = -1 ∨ s = 0) ∧ (s = 0 ↔ x = 0)
theorem sg3.of (a : Int) : sg3 a.sign a.natAbs := by
  rcases Int.lt_trichotomy a 0 with q | q | q
  · rw [sg3, Int.sign_eq_neg_one_of_neg q]; omega
  · subst q; exact ⟨Or.inr (Or.inr rfl), by simp⟩
  · rw [sg3, Int.sign_eq_one_of_pos q]; omega
theorem sgn_of {a : Int} {s : Int} {x : Nat} (h : sg3 s x) (ha : a = s * x) : a.sign = s ∧ a.natAbs = x := by
  obtain ⟨h1, h2⟩ := h
  subst ha
  rcases Nat.eq_zero_or_pos x with q | q
  · have := h2.mpr q
    subst this; subst q
    exact ⟨rfl, rfl⟩
  · rcases h1 with rfl | rfl | z
    · rw [Int.one_mul]; exact ⟨Int.sign_eq_one_of_pos (by omega), by omega⟩
    · rw [Int.neg_one_mul]; exact ⟨Int.sign_eq_neg_one_of_neg (by omega), by omega⟩
    · have := h2.mp z; omega
theorem s_signed {g : mG} {S : mS} {r s s1 s2 : Int} {x y : Nat} {Qp : Option mV → mS → Prop} (hr : 0 ≤ r ∧ r < 11) (hs : 0 ≤ s ∧ s < 11) (hne : r ≠ s) (h : rg S r x) (h' : rg S s y) (h1 : sg3 s1 x) (h2 : sg3 s2 y) (hsz : S 2 r < 440 ∧ S 2 s < 440)
    (k : ∀ S', rg S' r (s1 * x + s2 * y).natAbs → rfr S S' (fun j => j = r ∨ j = 11) → Qp (some (mi (s1 * x + s2 * y).sign)) S') : CX_signed g [mt, mi r, mi s1, mi s, mi s2] S Qp := by
  have zx := h.zero
  have zy := h'.zero
  obtain ⟨a1, a2⟩ := id h1
  obtain ⟨b1, b2⟩ := id h2
  -- ways out
  have sm : y = 0 → (S 2 r ≠ 0 → Qp (some (mi s1)) S) ∧ (¬ S 2 r ≠ 0 → Qp (some (mi 0)) S) := by
    intro hy
    obtain ⟨e1, e2⟩ := sgn_of (a := s1 * x + s2 * y) h1 (by rw [hy]; simp)
    have := k S (by rw [e2]; exact h) rfr.refl
    rw [e1] at this
    refine ⟨fun _ => this, fun c => ?_⟩
    have : s1 = 0 := a2.mpr (by omega)
    subst this
    assumption
  have cp : x = 0 → CX_copy g [mt, mi r, mi s] S (Qv fun S5 => mI S5 → Qp (some (mi s2)) S5) := by
    intro hx
    obtain ⟨e1, e2⟩ := sgn_of (a := s1 * x + s2 * y) h2 (by rw [hx]; simp)
    refine s_copy (by omega) (by omega) hne h' (fun S' c1 c2 => ?_)
    intro _
    have := k S' (by rw [e2]; exact c1) (c2.mono (fun j q => Or.inl q))
    rw [e1] at this
    exact this
  refine of_signed ?_
  intro _ _ _ _ _
  refine ⟨fun c => ⟨by omega, by omega, sm (b2.mp c)⟩, fun c => ⟨by omega, by omega, fun c2 => ⟨fun c3 => cp (a2.mp c3), fun c3 => ⟨by omega, by omega, fun c4 => ⟨fun c5 => ?_, fun c5 => ?_⟩, fun c4 => cp (by omega)⟩⟩, fun c2 => ⟨by omega, by omega, sm (by omega)⟩⟩⟩
  · refine s_compare (by omega) (by omega) h h' (fun v hv1 hv2 => ?_)
    intro _ _
    have opp : s2 = -s1 := by omega
    refine ⟨fun q => ?_, fun q => ?_⟩
    · have xy : x < y := by omega
      refine s_copy (by decide) (by omega) (by omega) h' (fun S10 h10 f10 => ?_)
      intro _
      refine s_minus (by decide) (by omega) (by omega) h10 (h.keep f10 (by omega)) (by omega) (fun S11 h11 f11 => ?_)
      intro _
      refine s_copy (by omega) (by decide) (by omega) h11 (fun S12 h12 f12 => ?_)
      intro _
      rw [show (y : Int) - x = ((y - x : Nat) : Int) by omega] at h12
      obtain ⟨e1, e2⟩ := sgn_of (a := s1 * x + s2 * y) (s := s2) (x := y - x) ⟨b1, by omega⟩ (by rw [opp, Int.natCast_sub (by omega)]; grind)
      have := k S12 (by rw [e2]; exact h12) (((f10.mono (fun j q => Or.inr q)).trans (f11.mono (fun j q => Or.inr q))).trans (f12.mono (fun j q => Or.inl q)))
      rw [e1] at this
      exact this
    · have xy : y ≤ x := by omega
      refine s_minus (by omega) (by omega) hne h h' (by omega) (fun S13 h13 f13 => ?_)
      intro _
      rw [show (x : Int) - y = ((x - y : Nat) : Int) by omega] at h13
      have hh : s1 * x + s2 * y = s1 * ((x - y : Nat) : Int) := by rw [opp, Int.natCast_sub (by omega)]; grind
      refine ⟨fun q2 => ?_, fun q2 => ?_⟩
      · obtain ⟨e1, e2⟩ := sgn_of (a := s1 * x + s2 * y) (s := s1) (x := x - y) ⟨a1, by omega⟩ hh
        have := k S13 (by rw [e2]; exact h13) (f13.mono (fun j q => Or.inl q))
        rw [e1] at this
        exact this
      · have xe : x - y = 0 := by omega
        rw [xe] at hh h13
        have e0 : s1 * x + s2 * y = 0 := by rw [hh]; simp
        have := k S13 (by rw [e0]; exact h13) (f13.mono (fun j q => Or.inl q))
        rw [e0] at this
        exact this
  · have same : s1 = s2 := by omega
    refine s_plus (by omega) (by omega) hne h h' hsz (fun S14 h14 f14 => ?_)
    intro _
    rw [← Int.natCast_add] at h14
    obtain ⟨e1, e2⟩ := sgn_of (a := s1 * x + s2 * y) (s := s1) (x := x + y) ⟨a1, by omega⟩ (by rw [← same, Int.natCast_add]; grind)
    have := k S14 (by rw [e2]; exact h14) (f14.mono (fun j q => Or.inl q))
    rw [e1] at this
    exact this

/-! the model's values: remainder, one, two -/
set_option maxRecDepth 100000
/-- what a remainder gives -/
def remQ (p q : Rat) : Rat ⊕ Int :=
  if p.den ≠ 1 then .inr 2 else if q.den ≠ 1 then .inr 2 else if q = 0 then .inr 1 else .inl ((p.num % q.num : Int) : Rat)
theorem b01_ne {b : Prop} [Decidable b] : b01 b ≠ 0 ↔ b := by
  unfold b01
  split <;> simp_all
theorem sign_zero {q : Rat} : q.num.sign = 0 ↔ q = 0 := by
  have := (sg3.of q.num).2
  rw [← Rat.num_eq_zero]
  omega
theorem whole_of {q : Rat} (h : q.den = 1) : q = (q.num : Rat) := by
  refine Rat.ext ?_ ?_
  · rw [Rat.num_intCast]
  · rw [h, Rat.den_intCast]
theorem s_remainder {g : mG} {S : mS} {t a b : Int} {p q : Rat} {Qp : Option mV → mS → Prop} (rt : rv t) (ha : rv a) (hb : rv b) (h : va S a p) (h' : va S b q) (hfit : fitQ q)
    (k : oQ Qp S t (remQ p q)) : CX_remainder g [mt, mi t, mi a, mi b] S Qp := by
  have sp := sg3.of p.num
  have ep := sgn_abs p.num
  unfold remQ at k
  refine of_remainder ?_
  intro _ _ _ _
  refine s_isWhole ha h ?_
  intro _ _
  refine ⟨fun c => ?_, fun c => ?_⟩
  · have hd : p.den ≠ 1 := fun z => b01_ne.mpr z c
    rw [if_pos hd] at k
    exact k S vfr.refl
  have pd : p.den = 1 := b01_ne.mp c
  rw [if_neg (fun z => z pd)] at k
  refine s_isWhole hb h' ?_
  intro _ _
  refine ⟨fun c2 => ?_, fun c2 => ?_⟩
  rotate_left
  · have hd : q.den ≠ 1 := fun z => c2 (b01_ne.mpr z)
    rw [if_pos hd] at k
    exact k S vfr.refl
  have qd : q.den = 1 := b01_ne.mp c2
  rw [if_neg (fun z => z qd)] at k
  refine s_sign hb h' ?_
  intro _ _
  refine ⟨fun c3 => ?_, fun c3 => ?_⟩
  rotate_left
  · rw [if_pos (sign_zero.mp (by omega))] at k
    exact k S vfr.refl
  have q0 : q.num ≠ 0 := by
    intro z
    rw [z] at c3
    exact c3 rfl
  rw [if_neg (fun z => c3 (sign_zero.mpr z))] at k
  refine s_loadN (by decide) ha h (fun S7 h7 z7 f7 => ?_)
  intro _
  refine s_loadN (by decide) hb (h'.keep (f7.v : vfr S S7 (fun _ => False)) (NF b)) (fun S8 h8 z8 f8 => ?_)
  intro _
  have v8 : vfr S S8 (fun _ => False) := f7.v.trans f8.v
  have e2 : S8 2 2 ≤ 13 := by rw [(f8.2 2 (by decide)).1]; exact z7
  refine s_divide (by decide) (by decide) (by decide) (by decide) (by decide) (by decide) (by decide) (by decide) (by decide) (h7.keep f8 (by decide)) h8 (by omega) (by omega) (fun S9 h9 g9 f9 => ?_)
  intro _
  have v9 := v8.trans f9.v
  have r4 := h8.keep f9 (by unfold r2; decide)
  refine s_sign ha (h.keep v9 (NF a)) ?_
  intro _ _
  have mlt : (p.num.natAbs : Int) % (q.num.natAbs : Int) < q.num.natAbs := Int.emod_lt_of_pos _ (by omega)
  have m0 : 0 ≤ (p.num.natAbs : Int) % (q.num.natAbs : Int) := Int.emod_nonneg _ (by omega)
  have z9 := g9.zero
  -- the ways out
  have out : ∀ (w : Nat) (T : mS), (w : Int) = p.num % q.num → vfr S T (fun _ => False) → rg T 0 w → CX_put g [mt, mi 1, mi 1] T (Qv fun S13 => mI S13 → CX_store g [mt, mi t, mi 1] S13 (Qi fun v15 S14 => mI S14 → -2147483648 ≤ v15 ∧ v15 ≤ 2147483647 → Qp (some (mi 0)) S14)) := by
    intro w T hw vf h0
    have wlt : w < 2 ^ 200 := by
      have h1 : p.num % q.num < q.num.natAbs := by
        have := Int.emod_lt p.num (b := q.num) q0
        omega
      have h2 := hfit.1
      omega
    have z0 : T 2 0 < 440 := by
      have := h0.size_le (n := 13) (Int.lt_trans (Int.ofNat_lt.mpr wlt) (by have := p200_13; exact this))
      omega
    refine s_put (by decide) (by decide) (fun S13 h13 f13 => ?_)
    intro _
    have z1 := h13.size_le (n := 1) (by decide)
    have e : mkRat (1 * (w : Int)) 1 = ((p.num % q.num : Int) : Rat) := by
      rw [Int.one_mul, hw, Rat.mkRat_one]
    refine s_store (x := w) (y := 1) rt (h0.keep f13 (by decide)) h13 (by decide) (Or.inl rfl) ⟨by rw [(f13.2 0 (by decide)).1]; exact z0, by omega⟩ ?_ ?_
    · rw [e]
      intro _ S14 h14 f14
      intro _ _
      exact k S14 h14 (((vf.mono (fun _ z => z.elim)).trans (f13.v : vfr T S13 (fun v => v = t ∨ 3600 ≤ v))).trans (f14.mono (fun v z => Or.inl z)))
    · rw [e]
      intro hf
      exfalso
      refine hf (fit_int ?_)
      rw [← hw]
      exact wlt
  refine ⟨fun c4 => ?_, fun c4 => ⟨fun c5 => ?_, fun c5 => ?_⟩⟩
  · have pn : 0 ≤ p.num := by
      rcases Int.lt_trichotomy p.num 0 with z | z | z
      · rw [Int.sign_eq_neg_one_of_neg z] at c4; omega
      · omega
      · omega
    refine s_copy (by decide) (by decide) (by decide) g9 (fun S12 h12 f12 => ?_)
    intro _
    refine out (p.num.natAbs % q.num.natAbs) S12 ?_ (v9.trans f12.v) (by rw [Int.natCast_emod]; exact h12)
    rw [Int.natCast_emod]
    rw [show (p.num.natAbs : Int) = p.num by omega]
    rcases Int.lt_trichotomy q.num 0 with z | z | z
    · rw [show (q.num.natAbs : Int) = -q.num by omega, Int.emod_neg]
    · exact absurd z q0
    · rw [show (q.num.natAbs : Int) = q.num by omega]
  · have pn : p.num < 0 := by
      rcases Int.lt_trichotomy p.num 0 with z | z | z
      · exact z
      · rw [z] at c4; exact absurd (by decide) c4
      · rw [Int.sign_eq_one_of_pos z] at c4; omega
    have hz : (p.num.natAbs : Int) % (q.num.natAbs : Int) = 0 := z9.mp (by have := g9.1.1; omega)
    refine s_copy (by decide) (by decide) (by decide) g9 (fun S12 h12 f12 => ?_)
    intro _
    refine out (p.num.natAbs % q.num.natAbs) S12 ?_ (v9.trans f12.v) (by rw [Int.natCast_emod]; exact h12)
    rw [Int.natCast_emod, hz]
    have d : (q.num.natAbs : Int) ∣ (p.num.natAbs : Int) := Int.dvd_of_emod_eq_zero hz
    have d2 : q.num ∣ p.num := Int.natAbs_dvd_natAbs.mp (Int.natCast_dvd_natCast.mp d)
    exact (Int.emod_eq_zero_of_dvd d2).symm
  · have pn : p.num < 0 := by
      rcases Int.lt_trichotomy p.num 0 with z | z | z
      · exact z
      · rw [z] at c4; exact absurd (by decide) c4
      · rw [Int.sign_eq_one_of_pos z] at c4; omega
    have hz : (p.num.natAbs : Int) % (q.num.natAbs : Int) ≠ 0 := fun z => c5 (by have := z9.mpr z; omega)
    refine s_copy (by decide) (by decide) (by decide) r4 (fun S20 h20 f20 => ?_)
    intro _
    refine s_minus (by decide) (by decide) (by decide) h20 (g9.keep f20 (by decide)) (by omega) (fun S21 h21 f21 => ?_)
    intro _
    have key : (q.num.natAbs : Int) - (p.num.natAbs : Int) % (q.num.natAbs : Int) = p.num % q.num := by
      have hd := Int.emod_add_mul_ediv (p.num.natAbs : Int) (q.num.natAbs : Int)
      rw [show p.num % q.num = p.num % (q.num.natAbs : Int) by
        rcases Int.lt_trichotomy q.num 0 with z | z | z
        · rw [show (q.num.natAbs : Int) = -q.num by omega, Int.emod_neg]
        · exact absurd z q0
        · rw [show (q.num.natAbs : Int) = q.num by omega]]
      have e : p.num = ((q.num.natAbs : Int) - (p.num.natAbs : Int) % (q.num.natAbs : Int)) + (q.num.natAbs : Int) * (-((p.num.natAbs : Int) / (q.num.natAbs : Int)) - 1) := by
        have : p.num = -(p.num.natAbs : Int) := by omega
        generalize (p.num.natAbs : Int) / (q.num.natAbs : Int) = u at *
        generalize (p.num.natAbs : Int) % (q.num.natAbs : Int) = w at *
        grind
      conv => rhs; rw [e]
      rw [Int.add_mul_emod_self_left]
      exact (Int.emod_eq_of_lt (by omega) (by omega)).symm
    refine out (q.num.natAbs - p.num.natAbs % q.num.natAbs) S21 ?_ ((v9.trans f20.v).trans f21.v) ?_
    · rw [Int.natCast_sub (by omega), Int.natCast_emod]; exact key
    · rw [Int.natCast_sub (by omega), Int.natCast_emod]; exact h21

/-! the model's values: raise, power -/
set_option maxRecDepth 100000
theorem fit_pow {p : Rat} {i n : Nat} (hin : i ≤ n) (h : fitQ (p ^ n)) : fitQ (p ^ i) := by
  obtain ⟨h1, h2⟩ := h
  rw [Rat.num_pow, Int.natAbs_pow] at h1
  rw [Rat.den_pow] at h2
  refine ⟨?_, ?_⟩
  · rw [Rat.num_pow, Int.natAbs_pow]
    rcases Nat.eq_zero_or_pos p.num.natAbs with q | q
    · rw [q]
      rcases Nat.eq_zero_or_pos i with w | w
      · subst w; decide
      · rw [Nat.zero_pow w]; decide
    · exact Nat.lt_of_le_of_lt (Nat.pow_le_pow_right q hin) h1
  · rw [Rat.den_pow]
    have := p.den_nz
    exact Nat.lt_of_le_of_lt (Nat.pow_le_pow_right (by omega) hin) h2
theorem s_raise {g : mG} {S : mS} {t a n : Int} {p : Rat} {Qp : Option mV → mS → Prop} (ht : rv t) (ha : rv a) (hne : t ≠ a) (h : va S a p) (hn : 0 ≤ n ∧ n ≤ 64)
    (k1 : fitQ (p ^ n.toNat) → ∀ S', va S' t (p ^ n.toNat) → vfr S S' (· = t) → Qp (some (mi 1)) S') (k0 : ¬ fitQ (p ^ n.toNat) → ∀ S', vfr S S' (· = t) → Qp (some (mi 0)) S') : CX_raise g [mt, mi t, mi a, mi n] S Qp := by
  refine of_raise (fun m l1 l2 l3 l4 l5 T => l1 = t ∧ l2 = a ∧ l3 = n ∧ 0 ≤ l5 ∧ l5 ≤ n ∧ vfr S T (· = t) ∧ ((l4 = 1 ∧ va T t (p ^ l5.toNat) ∧ fitQ (p ^ l5.toNat)) ∨ (l4 = 0 ∧ ¬ fitQ (p ^ l5.toNat))) ∧ m = (n - l5).toNat) ?_ ?_
  · intro _ _ _ _
    refine s_setInt ht (by decide) (fun S1 h1 f1 => ?_)
    intro _
    refine ⟨_, rfl, rfl, rfl, by omega, by omega, f1, Or.inl ⟨rfl, ?_, ?_⟩, rfl⟩
    · rw [show (0 : Int).toNat = 0 from rfl, Rat.pow_zero]; exact h1
    · rw [show (0 : Int).toNat = 0 from rfl, Rat.pow_zero]; exact ⟨by decide, by decide⟩
  · rintro m l1 l2 l3 l4 l5 T hS _ _ _ _ _ ⟨rfl, rfl, rfl, b1, b2, b3, b4, rfl⟩
    refine ⟨fun c => ?_, fun c => ⟨fun c2 => ?_, fun c2 => ?_⟩⟩
    · have e : l5 = l3 := by omega
      subst e
      rcases b4 with ⟨rfl, y1, y2⟩ | ⟨rfl, y1⟩
      · exact ⟨by omega, k1 y2 T y1 b3⟩
      · exact ⟨by omega, k0 y1 T b3⟩
    · rcases b4 with ⟨rfl, y1, y2⟩ | ⟨rfl, y1⟩
      · omega
      · exact ⟨by omega, k0 (fun y => y1 (fit_pow (by omega) y)) T b3⟩
    · rcases b4 with ⟨rfl, y1, y2⟩ | ⟨rfl, y1⟩
      · have e : p ^ (l5 + 1).toNat = p ^ l5.toNat * p := by
          rw [show (l5 + 1).toNat = l5.toNat + 1 by omega, Rat.pow_succ]
        refine s_multiplyValues ht ht ha y1 (h.keep b3 (fun z => hne z.symm)) (fun hf S1 h1 f1 => ?_) (fun hf S1 f1 => ?_)
        · intro _ _
          refine ⟨by omega, _, ?_, rfl, rfl, rfl, by omega, by omega, b3.trans f1, Or.inl ⟨rfl, by rw [e]; exact h1, by rw [e]; exact hf⟩, rfl⟩
          omega
        · intro _ _
          refine ⟨by omega, _, ?_, rfl, rfl, rfl, by omega, by omega, b3.trans (f1.mono (fun _ z => z.elim)), Or.inr ⟨rfl, by rw [e]; exact hf⟩, rfl⟩
          omega
      · exact absurd rfl c2
/-- what a power gives: its value or a fault (1: by zero, 2: not whole, 3: too great) -/
def powQ (p q : Rat) : Rat ⊕ Int :=
  if q.den ≠ 1 then .inr 2
  else if p = 0 ∧ q.num < 0 then .inr 1
  else if ¬ (-64 ≤ q.num ∧ q.num ≤ 64) then .inr 3
  else if fitQ (p ^ q.num) then .inl (p ^ q.num) else .inr 3

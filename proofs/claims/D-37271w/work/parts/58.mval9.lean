/-! the model's values: factorial -/
set_option maxRecDepth 100000
def fct : Nat → Nat
  | 0 => 1
  | n + 1 => (n + 1) * fct n
theorem fct_pos : ∀ n, 0 < fct n
  | 0 => by decide
  | n + 1 => Nat.mul_pos (by omega) (fct_pos n)
theorem fct_mono {a : Nat} : ∀ {b : Nat}, a ≤ b → fct a ≤ fct b
  | 0, h => by rw [show a = 0 by omega]; exact Nat.le_refl _
  | b + 1, h => by
    by_cases e : a = b + 1
    · rw [e]; exact Nat.le_refl _
    · have h1 := fct_mono (a := a) (b := b) (by omega)
      have h2 : 1 * fct b ≤ (b + 1) * fct b := Nat.mul_le_mul_right _ (by omega)
      show fct a ≤ (b + 1) * fct b
      omega
theorem fit_int {z : Int} (h : z.natAbs < 2 ^ 200) : fitQ (z : Rat) := by
  refine ⟨?_, ?_⟩
  · rw [Rat.num_intCast]; exact h
  · rw [Rat.den_intCast]; decide
theorem fct_fit {n : Nat} (h : n ≤ 30) : fitQ (((fct n : Nat) : Int) : Rat) := by
  refine fit_int ?_
  have h1 := fct_mono h
  have h2 : fct 30 < 2 ^ 200 := by decide
  omega
/-- what a factorial gives -/
def factQ (q : Rat) : Rat ⊕ Int :=
  if q.den ≠ 1 then .inr 2 else if q.num < 0 then .inr 2 else if 30 < q.num then .inr 3 else .inl (((fct q.num.toNat : Nat) : Int) : Rat)
theorem s_factorial {g : mG} {S : mS} {t a : Int} {q : Rat} {Qp : Option mV → mS → Prop} (ht : 0 ≤ t ∧ t < 3600) (ha : rv a) (h : va S a q)
    (k : oQ Qp S t (factQ q)) : CX_factorial g [mt, mi t, mi a] S Qp := by
  have rt : rv t := ⟨ht.1, by omega⟩
  have r0 : rv 3600 := ⟨by decide, by decide⟩
  have sp := sg3.of q.num
  have ep := sgn_abs q.num
  have sgn : 0 ≤ q.num.sign ↔ 0 ≤ q.num := by
    rcases Int.lt_trichotomy q.num 0 with z | z | z
    · rw [Int.sign_eq_neg_one_of_neg z]; omega
    · rw [z]; decide
    · rw [Int.sign_eq_one_of_pos z]; omega
  unfold factQ at k
  refine of_factorial (fun n l1 l3 l4 T => l1 = t ∧ l3 = q.num ∧ 2 ≤ l4 ∧ l4 ≤ 31 ∧ (l4 ≤ l3 + 1 ∨ l4 = 2) ∧ q.den = 1 ∧ 0 ≤ q.num ∧ q.num ≤ 30 ∧ vfr S T (fun v => v = t ∨ 3600 ≤ v) ∧ va T t (((fct (l4 - 1).toNat : Nat) : Int) : Rat) ∧ n = (31 - l4).toNat) ?_ ?_
  · intro _ _ _
    refine s_isWhole ha h ?_
    intro _ _
    unfold b01
    refine ⟨fun c => ?_, fun c => ?_⟩
    · have hd : q.den ≠ 1 := by
        intro z
        rw [if_pos z] at c; exact absurd c (by decide)
      rw [if_pos hd] at k
      exact k S vfr.refl
    · have hd : q.den = 1 := by
        by_cases z : q.den = 1
        · exact z
        · rw [if_neg z] at c; exact absurd rfl c
      rw [if_neg (fun z => z hd)] at k
      refine s_sign ha h ?_
      intro _ _
      refine ⟨fun c2 => ?_, fun c2 => ?_⟩
      · have hq := sgn.mp c2
        rw [if_neg (by omega)] at k
        refine s_small ha h (fun S3 f3 => ?_)
        intro _ _
        refine ⟨fun c3 => ?_, fun c3 => ?_⟩
        · have hs : smallOf q.num = q.num := by
            by_cases y : q.num.natAbs < 1073741824
            · exact smallOf_near y
            · have := smallOf_far y; omega
          rw [hs] at c3 ⊢
          refine s_setInt rt (by decide) (fun S7 h7 f7 => ?_)
          intro _
          exact ⟨_, rfl, rfl, by omega, by omega, by omega, hd, hq, c3, (f3.mono (fun _ z => z.elim)).trans (f7.mono (fun v z => Or.inl z)), h7, rfl⟩
        · have hs : 30 < q.num := by
            by_cases y : q.num.natAbs < 1073741824
            · rw [smallOf_near y] at c3; omega
            · have := smallOf_far y; omega
          rw [if_pos hs] at k
          exact k S3 (f3.mono (fun _ z => z.elim))
      · rw [if_pos (by omega)] at k
        exact k S vfr.refl
  · rintro n l1 l3 l4 T hS _ _ _ ⟨rfl, rfl, b1, b2, b3, hd, q1, q2, f, hv, rfl⟩
    rw [if_neg (fun z => z hd), if_neg (by omega), if_neg (by omega)] at k
    refine ⟨fun c => ?_, fun c => ?_⟩
    · refine k T ?_ f
      by_cases e : l4 = q.num + 1
      · rw [show (l4 - 1).toNat = q.num.toNat by omega] at hv
        exact hv
      · have : q.num = 0 ∧ l4 = 2 := by omega
        rw [this.2] at hv
        rw [this.1]
        exact hv
    · refine s_setInt r0 (by omega) (fun S1 h1 f1 => ?_)
      intro _
      have hv1 := hv.keep f1 (by omega)
      have e : (((fct (l4 - 1).toNat : Nat) : Int) : Rat) * (l4 : Rat) = (((fct (l4 + 1 - 1).toNat : Nat) : Int) : Rat) := by
        rw [← Rat.intCast_mul]
        congr 1
        rw [show (l4 + 1 - 1).toNat = (l4 - 1).toNat + 1 by omega]
        show _ = ((((l4 - 1).toNat + 1) * fct (l4 - 1).toNat : Nat) : Int)
        rw [Int.natCast_mul, Int.mul_comm]
        congr 1
        omega
      have fr := (f.trans (f1.mono (fun v z => Or.inr (by omega))) : vfr S S1 (fun v => v = l1 ∨ 3600 ≤ v))
      refine s_multiplyValues rt rt r0 hv1 h1 (fun hf S2 h2 f2 => ?_) (fun hf S2 f2 => ?_)
      · rw [e] at h2
        intro _ _
        refine ⟨by omega, _, ?_, rfl, rfl, by omega, by omega, by omega, hd, q1, q2, fr.trans (f2.mono (fun v z => Or.inl z)), h2, rfl⟩
        omega
      · exfalso
        rw [e] at hf
        exact hf (fct_fit (by omega))

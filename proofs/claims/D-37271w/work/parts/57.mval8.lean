/-! the model's values: power, factorial -/
set_option maxRecDepth 100000
theorem smallOf_near {z : Int} (h : z.natAbs < 1073741824) : smallOf z = z := by unfold smallOf; rw [if_pos h]
theorem smallOf_far {z : Int} (h : ¬ z.natAbs < 1073741824) : (0 < z ∧ smallOf z = 1073741824) ∨ (z < 0 ∧ smallOf z = -1073741824) := by
  unfold smallOf
  rw [if_neg h]
  rcases Int.lt_trichotomy z 0 with q | q | q
  · right; rw [Int.sign_eq_neg_one_of_neg q]; exact ⟨q, rfl⟩
  · omega
  · left; rw [Int.sign_eq_one_of_pos q]; exact ⟨q, rfl⟩
theorem fit_inv {x : Rat} (hx : x ≠ 0) : fitQ x⁻¹ ↔ fitQ x := by
  have h0 : x.num ≠ 0 := fun z => hx (Rat.num_eq_zero.mp z)
  have d := x.den_nz
  unfold fitQ
  rw [Rat.num_inv, Rat.den_inv, if_neg h0]
  have e : (x.num.sign * (x.den : Int)).natAbs = x.den := by
    rcases Int.lt_trichotomy x.num 0 with q | q | q
    · rw [Int.sign_eq_neg_one_of_neg q]; omega
    · exact absurd q h0
    · rw [Int.sign_eq_one_of_pos q]; omega
  rw [e]
  exact And.comm
theorem rpow_ne {p : Rat} (h : p ≠ 0) (n : Nat) : p ^ n ≠ 0 := by
  intro e
  have h0 : p.num ≠ 0 := fun z => h (Rat.num_eq_zero.mp z)
  have e1 : (p ^ n).num = 0 := by rw [e]; rfl
  rw [Rat.num_pow] at e1
  exact absurd e1 (Int.pow_ne_zero h0)
/-- where an act of arithmetic may come out: a value at place t, or a fault -/
def oQ (Qp : Option mV → mS → Prop) (S : mS) (t : Int) : Rat ⊕ Int → Prop
  | .inl r => ∀ S', va S' t r → vfr S S' (fun v => v = t ∨ 3600 ≤ v) → Qp (some (mi 0)) S'
  | .inr e => ∀ S', vfr S S' (fun v => v = t ∨ 3600 ≤ v) → Qp (some (mi e)) S'
theorem oQ.up {Qp : Option mV → mS → Prop} {S T : mS} {t : Int} {o : Rat ⊕ Int} (h : oQ Qp S t o) (hf : vfr S T (fun v => v = t ∨ 3600 ≤ v)) : oQ Qp T t o := by
  cases o with
  | inl r => exact fun S' a b => h S' a (hf.trans b)
  | inr e => exact fun S' b => h S' (hf.trans b)
theorem s_power {g : mG} {S : mS} {t a b : Int} {p q : Rat} {Qp : Option mV → mS → Prop} (ht : 0 ≤ t ∧ t < 3600) (ha : 0 ≤ a ∧ a < 3600) (hb : rv b) (h : va S a p) (h' : va S b q)
    (k : oQ Qp S t (powQ p q)) : CX_power g [mt, mi t, mi a, mi b] S Qp := by
  have ra : rv a := ⟨ha.1, by omega⟩
  have rt : rv t := ⟨ht.1, by omega⟩
  have r0 : rv 3600 := ⟨by decide, by decide⟩
  have r1 : rv 3601 := ⟨by decide, by decide⟩
  have spp := sg3.of p.num
  have pz : p = 0 ↔ p.num.sign = 0 := by
    rw [← Rat.num_eq_zero]
    have := spp.2
    omega
  unfold powQ at k
  refine of_power
    (fun n l1 l2 l4 T => n = 2 ∧ l1 = t ∧ l2 = a ∧ l4 = smallOf q.num ∧ vfr S T (fun _ => False) ∧ q.den = 1 ∧ ¬ (p = 0 ∧ q.num < 0))
    (fun n l1 l5 T => n = 1 ∧ l1 = t ∧ vfr S T (fun v => 3600 ≤ v) ∧ q.den = 1 ∧ ¬ (p = 0 ∧ q.num < 0) ∧ -64 ≤ q.num ∧ q.num ≤ 64 ∧ ((l5 = 1 ∧ fitQ (p ^ q.num) ∧ va T 3600 (p ^ q.num)) ∨ (l5 = 0 ∧ ¬ fitQ (p ^ q.num))))
    (fun n l5 T => n = 0 ∧ vfr S T (fun v => v = t ∨ 3600 ≤ v) ∧ q.den = 1 ∧ ¬ (p = 0 ∧ q.num < 0) ∧ -64 ≤ q.num ∧ q.num ≤ 64 ∧ ((l5 = 1 ∧ fitQ (p ^ q.num) ∧ va T t (p ^ q.num)) ∨ (l5 = 0 ∧ ¬ fitQ (p ^ q.num))))
    ?_ ?_ ?_ ?_
  · intro _ _ _ _
    refine s_isWhole hb h' ?_
    intro _ _
    unfold b01
    refine ⟨fun c => ?_, fun c => ?_⟩
    · have hd : q.den = 1 := by
        by_cases z : q.den = 1
        · exact z
        · rw [if_neg z] at c; exact absurd rfl c
      rw [if_neg (fun z => z hd)] at k
      refine s_small hb h' (fun S3 f3 => ?_)
      intro _ _
      refine s_sign ra (h.keep f3 (NF a)) ?_
      intro _ _
      refine ⟨fun c2 => ⟨_, rfl, rfl, rfl, rfl, f3, hd, fun z => c2 (pz.mp z.1)⟩, fun c2 => ⟨fun c3 => ⟨_, rfl, rfl, rfl, rfl, f3, hd, fun z => ?_⟩, fun c3 => ?_⟩⟩
      · by_cases y : q.num.natAbs < 1073741824
        · rw [smallOf_near y] at c3; omega
        · have := smallOf_far y; omega
      · rw [if_pos ⟨pz.mpr (by omega), by
          by_cases y : q.num.natAbs < 1073741824
          · rw [smallOf_near y] at c3; omega
          · have := smallOf_far y; omega⟩] at k
        exact k S3 (f3.mono (fun _ z => z.elim))
    · have hd : q.den ≠ 1 := by
        intro z
        rw [if_pos z] at c; exact c (by decide)
      rw [if_pos hd] at k
      exact k S vfr.refl
  · rintro n l1 l2 l4 T hS _ _ _ ⟨rfl, rfl, rfl, rfl, f3, hd, hn⟩
    rw [if_neg (fun z => z hd), if_neg hn] at k
    refine s_in ?_
    intro _ _
    unfold b01
    have hin : (-64 ≤ smallOf q.num ∧ smallOf q.num ≤ 64) ↔ (-64 ≤ q.num ∧ q.num ≤ 64) := by
      by_cases y : q.num.natAbs < 1073741824
      · rw [smallOf_near y]
      · have := smallOf_far y; omega
    refine ⟨fun c => ?_, fun c => ?_⟩
    · have hq : -64 ≤ q.num ∧ q.num ≤ 64 := by
        by_cases z : (-64 ≤ smallOf q.num ∧ smallOf q.num ≤ 64)
        · exact hin.mp z
        · rw [if_neg z] at c; exact absurd rfl c
      have hs : smallOf q.num = q.num := smallOf_near (by omega)
      rw [hs]
      have hT := h.keep f3 (NF l2)
      refine ⟨fun c2 => ?_, fun c2 => ⟨by omega, ?_⟩⟩
      · have e : p ^ q.num = p ^ q.num.toNat := by
          conv => lhs; rw [show q.num = (q.num.toNat : Int) by omega]
          rw [Rat.zpow_natCast]
        refine s_raise r0 ra (by omega) hT (by omega) (fun hf S4 h4 f4 => ?_) (fun hf S4 f4 => ?_)
        · intro _ _
          refine ⟨fun z => absurd z (by decide), fun _ => ⟨fun _ => ⟨_, by omega, rfl, rfl, (f3.mono (fun _ z => z.elim)).trans (f4.mono (fun v z => by omega)), hd, hn, hq.1, hq.2, Or.inl ⟨rfl, by rw [e]; exact hf, by rw [e]; exact h4⟩⟩, fun z => absurd c2 z⟩⟩
        · intro _ _
          refine ⟨fun _ => ⟨_, by omega, rfl, rfl, (f3.mono (fun _ z => z.elim)).trans (f4.mono (fun v z => by omega)), hd, hn, hq.1, hq.2, Or.inr ⟨rfl, by rw [e]; exact hf⟩⟩, fun z => absurd rfl z⟩
      · have e : p ^ q.num = (p ^ (-q.num).toNat)⁻¹ := by
          conv => lhs; rw [show q.num = -((-q.num).toNat : Int) by omega]
          rw [Rat.zpow_neg, Rat.zpow_natCast]
        have p0 : p ≠ 0 := fun z => hn ⟨z, by omega⟩
        have pn := rpow_ne p0 (-q.num).toNat
        refine s_raise r0 ra (by omega) hT (by omega) (fun hf S4 h4 f4 => ?_) (fun hf S4 f4 => ?_)
        · intro _ _
          refine ⟨fun z => absurd z (by decide), fun _ => ⟨fun z => absurd z c2, fun _ => ?_⟩⟩
          refine s_setInt r1 (by decide) (fun S5 h5 f5 => ?_)
          intro _
          have h4' := h4.keep f5 (by decide)
          have ed : ((1 : Int) : Rat) / p ^ (-q.num).toNat = p ^ q.num := by
            rw [e, Rat.div_def]
            exact Rat.one_mul _
          refine s_divideValues r0 r1 r0 h5 h4' pn (fun hf2 S6 h6 f6 => ?_) (fun hf2 S6 f6 => ?_)
          · rw [ed] at hf2 h6
            intro _ _
            exact ⟨_, by omega, rfl, rfl, (((f3.mono (fun _ z => z.elim)).trans (f4.mono (fun v z => by omega))).trans (f5.mono (fun v z => by omega))).trans (f6.mono (fun v z => by omega)), hd, hn, hq.1, hq.2, Or.inl ⟨rfl, hf2, h6⟩⟩
          · rw [ed] at hf2
            intro _ _
            exact ⟨_, by omega, rfl, rfl, (((f3.mono (fun _ z => z.elim)).trans (f4.mono (fun v z => by omega))).trans (f5.mono (fun v z => by omega))).trans (f6.mono (fun v z => by exact z.elim)), hd, hn, hq.1, hq.2, Or.inr ⟨rfl, hf2⟩⟩
        · intro _ _
          refine ⟨fun _ => ⟨_, by omega, rfl, rfl, (f3.mono (fun _ z => z.elim)).trans (f4.mono (fun v z => by omega)), hd, hn, hq.1, hq.2, Or.inr ⟨rfl, by rw [e]; exact fun z => hf ((fit_inv pn).mp z)⟩⟩, fun z => absurd rfl z⟩
    · have hq : ¬ (-64 ≤ q.num ∧ q.num ≤ 64) := by
        intro z
        rw [if_pos (hin.mpr z)] at c; exact c (by decide)
      rw [if_pos hq] at k
      exact k T (f3.mono (fun _ z => z.elim))
  · rintro n l1 l5 T hS _ _ ⟨rfl, rfl, f, hd, hn, q1, q2, r⟩
    refine ⟨fun c => ?_, fun c => ?_⟩
    · rcases r with ⟨z, -⟩ | ⟨z, y⟩
      · omega
      · exact ⟨_, by omega, rfl, f.mono (fun v z => Or.inr z), hd, hn, q1, q2, Or.inr ⟨z, y⟩⟩
    · rcases r with ⟨z, y1, y2⟩ | ⟨z, y⟩
      · refine s_copyValue rt r0 (by omega) (fun S1 e1 h1 e2 f1 => ?_)
        intro _
        exact ⟨_, by omega, rfl, (f.mono (fun v z => Or.inr z)).trans (f1.mono (fun v z => Or.inl z)), hd, hn, q1, q2, Or.inl ⟨z, y1, h1 _ y2⟩⟩
      · omega
  · rintro n l5 T hS _ ⟨rfl, f, hd, hn, q1, q2, r⟩
    rw [if_neg (fun z => z hd), if_neg hn, if_neg (fun z => z ⟨q1, q2⟩)] at k
    refine ⟨fun c => ?_, fun c => ?_⟩
    · rcases r with ⟨z, -⟩ | ⟨z, y⟩
      · omega
      · rw [if_neg y] at k
        exact k T f
    · rcases r with ⟨z, y1, y2⟩ | ⟨z, y⟩
      · rw [if_pos y1] at k
        exact k T y2 f
      · omega

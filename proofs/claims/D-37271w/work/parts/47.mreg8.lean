/-! the model's wide numbers: divide, common -/
set_option maxRecDepth 100000
def r2 (q m : Int) : Int → Prop := fun j => j = q ∨ j = m
def diI (S : mS) (q m r s x y : Int) (n : Nat) (l1 l2 l3 l4 l5 : Int) (T : mS) : Prop :=
  l1 = q ∧ l2 = m ∧ l3 = r ∧ l4 = s ∧ -1 ≤ l5 ∧ l5 < 7040 ∧ rfr S T (r2 q m) ∧ (∃ a b, rg T q a ∧ rg T m b ∧ x / 2 ^ (l5 + 1).toNat = a * y + b ∧ 0 ≤ a ∧ 0 ≤ b ∧ b < y) ∧ n = (l5 + 1).toNat
theorem div_ab {x y a b : Int} (h : x = a * y + b) (h0 : 0 ≤ b) (h1 : b < y) : x / y = a ∧ x % y = b := by
  subst h
  have e : (a * y + b) / y = a := by
    rw [Int.add_comm, Int.add_mul_ediv_right _ _ (by omega), Int.ediv_eq_zero_of_lt h0 h1]
    omega
  refine ⟨e, ?_⟩
  rw [Int.add_comm, Int.add_mul_emod_self_right]
  exact Int.emod_eq_of_lt h0 h1
theorem rg.size2 {S : mS} {r x y : Int} {n : Int} (h : rg S r x) (hy : 0 ≤ n) (hxy : x ≤ y) (hl : y < 65536 ^ n.toNat) : S 2 r ≤ n := by
  have := h.size_le (n := n.toNat) (by omega)
  omega
theorem s_divide {g : mG} {S : mS} {q m r s x y : Int} {Qp : Option mV → mS → Prop} (hq : 0 ≤ q ∧ q < 16) (hm : 0 ≤ m ∧ m < 16) (hr : 0 ≤ r ∧ r < 16) (hs : 0 ≤ s ∧ s < 16) (hqm : q ≠ m) (hqr : q ≠ r) (hqs : q ≠ s) (hmr : m ≠ r) (hms : m ≠ s) (h : rg S r x) (h' : rg S s y) (hy : 0 < y) (hsz : S 2 r < 440 ∧ S 2 s < 440)
    (k : ∀ S', rg S' q (x / y) → rg S' m (x % y) → rfr S S' (r2 q m) → Qp none S') : CX_divide g [mt, mi q, mi m, mi r, mi s] S Qp := by
  have x0 := rg.lt h.1
  have y0 := rg.lt h'.1
  refine of_divide (diI S q m r s x y) ?_ ?_
  · intro _ _ _ _ _
    refine ⟨by omega, by omega, by omega, by omega, ?_⟩
    have hf : rfr S (mup (mup S 2 q 0) 2 m 0) (r2 q m) := ⟨fun k a b => by rw [mupf k b, mupf k b], fun j hj => ⟨by rw [mup_nj (fun z => hj (Or.inr z)), mup_nj (fun z => hj (Or.inl z))], fun i _ _ => by rw [mup_ne (by decide), mup_ne (by decide)]⟩⟩
    have hr1 := h.keep hf (fun z => by rcases z with z | z <;> omega)
    refine s_bits hr hr1 (fun z hz hz2 => ?_)
    have e2 := (hf.2 r (fun z => by rcases z with z | z <;> omega)).1
    rw [e2] at hz2
    intro _ _
    have zq : rg (mup (mup S 2 q 0) 2 m 0) q 0 := by
      have e : (mup (mup S 2 q 0) 2 m 0) 2 q = 0 := by rw [mup_nj hqm, mup_eq]
      exact ⟨⟨by rw [e]; decide, by rw [e]; decide, by rw [e]; intro j a b; omega, by rw [e]; rfl⟩, Or.inl e⟩
    have zm : rg (mup (mup S 2 q 0) 2 m 0) m 0 := by
      have e : (mup (mup S 2 q 0) 2 m 0) 2 m = 0 := mup_eq
      exact ⟨⟨by rw [e]; decide, by rw [e]; decide, by rw [e]; intro j a b; omega, by rw [e]; rfl⟩, Or.inl e⟩
    have z0 := hz.1
    refine ⟨by omega, _, rfl, rfl, rfl, rfl, by omega, by omega, hf, ⟨0, 0, zq, zm, ?_, by omega, by omega, hy⟩, rfl⟩
    rw [show z - 1 + 1 = z by omega, Int.ediv_eq_zero_of_lt x0.1 hz.2.1]
    omega
  · rintro n l1 l2 l3 l4 l5 T hS _ _ _ _ _ ⟨rfl, rfl, rfl, rfl, b1, b2, b3, ⟨a, b, c1, c2, c3, c4, c5, c6⟩, rfl⟩
    refine ⟨fun c => ?_, fun c => ?_⟩
    · have e : l5 = -1 := by omega
      subst e
      have e : x = a * y + b := by rw [← c3]; show x = x / 1; omega
      obtain ⟨e1, e2⟩ := div_ab e c5 c6
      exact k T (by rw [e1]; exact c1) (by rw [e2]; exact c2) b3
    · have nr : ¬ r2 l1 l2 l3 := fun z => by rcases z with z | z <;> omega
      have ns : ¬ r2 l1 l2 l4 := fun z => by rcases z with z | z <;> omega
      have hr1 := h.keep b3 nr
      refine s_isBit hr hr1 (by omega) ?_
      intro _ _
      obtain ⟨t, ht⟩ : ∃ t, t = x / 2 ^ l5.toNat % 2 := ⟨_, rfl⟩
      rw [← ht]
      have t01 : t = 0 ∨ t = 1 := by omega
      have hX : x / 2 ^ l5.toNat = 2 * a * y + (2 * b + t) := by
        have e : x / 2 ^ (l5 + 1).toNat = x / 2 ^ l5.toNat / 2 := by
          rw [show (l5 + 1).toNat = l5.toNat + 1 by omega, Int.pow_succ, Int.ediv_ediv_of_nonneg (by have := p2_pos l5.toNat; omega)]
        rw [e] at c3
        have e3 : x / 2 ^ l5.toNat = 2 * (x / 2 ^ l5.toNat / 2) + t := by omega
        rw [c3] at e3
        rw [e3]
        grind
      have hxle : x / 2 ^ l5.toNat ≤ x := Int.ediv_le_self _ x0.1
      have ay : 0 ≤ a * y := Int.mul_nonneg c4 (by omega)
      have a1 : a ≤ a * y := by
        have : a * 1 ≤ a * y := Int.mul_le_mul_of_nonneg_left (by omega) c4
        omega
      have hay : 2 * a * y = 2 * (a * y) := by rw [Int.mul_assoc]
      have gr := h.1.1
      have gs := h'.1.1
      have szm := c2.size2 (n := S 2 l4) gs (by omega) y0.2
      have szq := c1.size2 (n := S 2 l3) gr (y := x) (by omega) x0.2
      have main : CX_twice g [mt, mi l2, mi t] T (Qv fun S3 => mI S3 → CX_compare g [mt, mi l2, mi l4] S3 (Qi fun v5 S4 => mI S4 → (-2147483648 ≤ v5 ∧ v5 ≤ 2147483647) → ((v5 < 0) → CX_twice g [mt, mi l1, mi 0] S4 (Qv fun S6 => mI S6 → (-2147483648 ≤ ((l5 + (-1)) : Int) ∧ (l5 + (-1)) ≤ 2147483647) ∧ (∃ n1, n1 < (l5 + 1).toNat ∧ diI S l1 l2 l3 l4 x y n1 l1 l2 l3 l4 (l5 + (-1)) S6))) ∧ (¬ (v5 < 0) → CX_minus g [mt, mi l2, mi l4] S4 (Qv fun S8 => mI S8 → CX_twice g [mt, mi l1, mi 1] S8 (Qv fun S9 => mI S9 → (-2147483648 ≤ ((l5 + (-1)) : Int) ∧ (l5 + (-1)) ≤ 2147483647) ∧ (∃ n1, n1 < (l5 + 1).toNat ∧ diI S l1 l2 l3 l4 x y n1 l1 l2 l3 l4 (l5 + (-1)) S9)))))) := by
        refine s_twice hm t01 c2 (by omega) (fun S3 h3 f3 => ?_)
        intro _
        have g3 : rfr S S3 (r2 l1 l2) := b3.trans (f3.mono (fun j q => Or.inr q))
        have hs3 := h'.keep g3 ns
        refine s_compare hm hs h3 hs3 (fun v hv1 hv2 => ?_)
        intro _ _
        have q3 := c1.keep f3 hqm
        have sq3 := (f3.2 l1 hqm).1
        refine ⟨fun c => ?_, fun c => ?_⟩
        · refine s_twice hq (Or.inl rfl) q3 (by omega) (fun S6 h6 f6 => ?_)
          intro _
          refine ⟨by omega, _, ?_, rfl, rfl, rfl, rfl, by omega, by omega, g3.trans (f6.mono (fun j q => Or.inl q)), ⟨2 * a + 0, 2 * b + t, h6, h3.keep f6 (fun z => hqm z.symm), ?_, by omega, by omega, by omega⟩, rfl⟩
          · omega
          · rw [show (l5 + (-1) + 1).toNat = l5.toNat by omega, hX, Int.add_zero]
        · refine s_minus hm hs hms h3 hs3 (by omega) (fun S8 h8 f8 => ?_)
          intro _
          have q8 := q3.keep f8 hqm
          have sq8 := (f8.2 l1 hqm).1
          refine s_twice hq (Or.inr rfl) q8 (by omega) (fun S9 h9 f9 => ?_)
          intro _
          refine ⟨by omega, _, ?_, rfl, rfl, rfl, rfl, by omega, by omega, (g3.trans (f8.mono (fun j q => Or.inr q))).trans (f9.mono (fun j q => Or.inl q)), ⟨2 * a + 1, 2 * b + t - y, h9, h8.keep f9 (fun z => hqm z.symm), ?_, by omega, by omega, by omega⟩, rfl⟩
          · omega
          · rw [show (l5 + (-1) + 1).toNat = l5.toNat by omega, hX]
            grind
      rcases t01 with rfl | rfl
      · exact ⟨fun _ => main, fun z => absurd rfl z⟩
      · exact ⟨fun z => absurd z (by decide), fun _ => main⟩

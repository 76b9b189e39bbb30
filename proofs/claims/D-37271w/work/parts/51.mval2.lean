/-! the model's values: store, setInt -/
set_option maxRecDepth 100000
abbrev fitQ (q : Rat) : Prop := q.num.natAbs < 2 ^ 200 ∧ q.den < 2 ^ 200
theorem rg.keep12 {S S' : mS} {r x : Int} (h : rg S r x) (h1 : S' 1 = S 1) (h2 : S' 2 = S 2) : rg S' r x := by
  unfold rg ru at h ⊢
  rw [h1, h2]
  exact h
theorem blen_200 {x z : Int} (h : blen x z) : z ≤ 200 ↔ x < 2 ^ 200 := by
  obtain ⟨h0, h1, h2⟩ := h
  constructor
  · intro q
    have h3 : (2 : Int) ^ z.toNat ≤ 2 ^ 200 := by
      have : (2 : Nat) ^ z.toNat ≤ 2 ^ 200 := Nat.pow_le_pow_right (by decide) (by omega)
      have h4 : ((2 ^ z.toNat : Nat) : Int) ≤ ((2 ^ 200 : Nat) : Int) := Int.ofNat_le.mpr this
      rw [Int.natCast_pow] at h4
      exact h4
    exact Int.lt_of_lt_of_le h1 h3
  · intro q
    rcases Int.lt_or_le 200 z with c | c
    · exfalso
      rcases h2 with e | e
      · omega
      · have h3 : (2 : Int) ^ 200 ≤ 2 ^ (z - 1).toNat := by
          have : (2 : Nat) ^ 200 ≤ 2 ^ (z - 1).toNat := Nat.pow_le_pow_right (by decide) (by omega)
          have h4 : ((2 ^ 200 : Nat) : Int) ≤ ((2 ^ (z - 1).toNat : Nat) : Int) := Int.ofNat_le.mpr this
          rw [Int.natCast_pow, Int.natCast_pow] at h4
          exact h4
        exact absurd (Int.lt_of_lt_of_le q (Int.le_trans h3 e)) (Int.lt_irrefl _)
    · exact c
theorem rat_parts {s : Int} {x y : Nat} (hy : 0 < y) (hs : s = 1 ∨ s = -1 ∨ x = 0) : (mkRat (s * x) y).num.natAbs = x / Nat.gcd x y ∧ (mkRat (s * x) y).den = y / Nat.gcd x y ∧ (mkRat (s * x) y).num.sign = if x = 0 then 0 else s := by
  rw [Rat.num_mkRat, Rat.den_mkRat, if_neg (by omega), if_neg (by omega)]
  rcases Nat.eq_zero_or_pos x with hx | hx
  · subst hx
    simp
  · rw [if_neg (by omega)]
    have e : (s * (x : Int)).natAbs = x := by
      rcases hs with rfl | rfl | q
      · omega
      · omega
      · omega
    rw [e, Nat.gcd_comm y x]
    have gp : 0 < Nat.gcd x y := Nat.gcd_pos_of_pos_left y hx
    have gd := Nat.gcd_dvd_left x y
    obtain ⟨w, hw⟩ := gd
    have hq : x / Nat.gcd x y = w := by
      conv => lhs; lhs; rw [hw]
      exact Nat.mul_div_cancel_left w gp
    have wp : 0 < w := by
      rcases Nat.eq_zero_or_pos w with q | q
      · subst q; omega
      · exact q
    have e2 : s * (x : Int) / (Nat.gcd x y : Nat) = s * w := by
      have : s * (x : Int) = (s * w) * (Nat.gcd x y : Nat) := by
        conv => lhs; rw [hw]
        rw [Int.natCast_mul]
        grind
      rw [this]
      exact Int.mul_ediv_cancel _ (by omega)
    rw [e2, hq]
    refine ⟨?_, rfl, ?_⟩
    · rcases hs with rfl | rfl | q
      · omega
      · omega
      · omega
    · rcases hs with rfl | rfl | q
      · rw [Int.one_mul]; exact Int.sign_eq_one_of_pos (by omega)
      · rw [Int.neg_one_mul]; exact Int.sign_eq_neg_one_of_neg (by omega)
      · omega
theorem p200_13 : (2 : Int) ^ 200 < 65536 ^ 13 := by decide
theorem s_store {g : mG} {S : mS} {v s : Int} {x y : Nat} {Qp : Option mV → mS → Prop} (hv : rv v) (h : rg S 0 x) (h' : rg S 1 y) (hy : 0 < y) (hs : s = 1 ∨ s = -1 ∨ x = 0) (hsz : S 2 0 < 440 ∧ S 2 1 < 440)
    (k1 : fitQ (mkRat (s * x) y) → ∀ S', va S' v (mkRat (s * x) y) → vfr S S' (· = v) → Qp (some (mi 1)) S') (k0 : ¬ fitQ (mkRat (s * x) y) → ∀ S', vfr S S' (fun _ => False) → Qp (some (mi 0)) S') : CX_store g [mt, mi v, mi s] S Qp := by
  obtain ⟨v1, v2⟩ := id hv
  obtain ⟨r1, r2, r3⟩ := rat_parts hy hs
  unfold fitQ at k1 k0
  rw [r1, r2] at k1 k0
  refine of_store ?_
  intro _ _ _
  refine s_lowest (by decide) (by decide) (by decide) h h' hy hsz (fun S1 h1 h2 f1 => ?_)
  intro _
  have fv : ∀ u, vfr S S1 u := fun u => f1.v
  refine s_bits (by decide) h1 (fun z hz _ => ?_)
  intro _ _
  have b1 := blen_200 hz
  have e200 : (2 : Int) ^ 200 = ((2 ^ 200 : Nat) : Int) := by decide
  rw [e200] at b1
  refine ⟨fun c => k0 (fun q => ?_) S1 (fv _), fun c => ?_⟩
  · have := b1.mpr (Int.ofNat_lt.mpr q.1)
    omega
  · have n1 := b1.mp (by omega)
    refine s_bits (by decide) h2 (fun z' hz' _ => ?_)
    intro _ _
    have b2 := blen_200 hz'
    rw [e200] at b2
    refine ⟨fun c2 => ?_, fun c2 => k0 (fun q => ?_) S1 (fv _)⟩
    · have n2 := b2.mp c2
      have hz0 := h1.zero
      have key : ∀ w, w = (mkRat (s * x) y).num.sign → CX_hold g [mt, mi v, mi 0, mi 1] (mup S1 3 (28 * v) w) (Qv fun S9 => mI S9 → CX_hold g [mt, mi v, mi 1, mi 14] S9 (Qv fun S10 => mI S10 → Qp (some (mi 1)) S10)) := by
        intro w hw
        have hm1 : (mup S1 3 (28 * v) w) 1 = S1 1 := mupf 1 (by decide)
        have hm2 : (mup S1 3 (28 * v) w) 2 = S1 2 := mupf 2 (by decide)
        refine s_hold (by decide) hv (Or.inl rfl) (h1.keep12 hm1 hm2) (Int.lt_trans n1 (by rw [← e200]; exact p200_13)) (fun S9 h9 f9 => ?_)
        intro _
        refine s_hold (by decide) hv (Or.inr rfl) ((h2.keep12 hm1 hm2).keep12 (f9.1 1 (by decide)) (f9.1 2 (by decide))) (Int.lt_trans n2 (by rw [← e200]; exact p200_13)) (fun S10 h10 f10 => ?_)
        intro _
        refine k1 ⟨Int.ofNat_lt.mp n1, Int.ofNat_lt.mp n2⟩ S10 ⟨?_, ?_, ?_⟩ ?_
        · rw [f10.2 _ (by omega), f9.2 _ (by omega), mup_eq, hw]
        · rw [r1]
          exact h9.keep (fun i a b => f10.2 i (by omega))
        · rw [r2]
          exact h10
        · refine (fv _).trans ⟨fun k a b c => ?_, fun u hu i a b => ?_⟩
          · rw [f10.1 k c, f9.1 k c, mupf k c]
          · rw [f10.2 i (by omega), f9.2 i (by omega), mup_nj (by omega)]
      have cz : S1 2 0 = 0 ↔ x = 0 := by
        rw [hz0]
        constructor
        · intro q
          have gp : 0 < Nat.gcd x y := Nat.gcd_pos_of_pos_right x hy
          have q2 : x / Nat.gcd x y = 0 := by omega
          obtain ⟨w, hw⟩ := Nat.gcd_dvd_left x y
          have q3 : x / Nat.gcd x y = w := by
            conv => lhs; lhs; rw [hw]
            exact Nat.mul_div_cancel_left w gp
          have q4 : w = 0 := by omega
          subst q4
          omega
        · intro q
          subst q
          simp
      refine ⟨by omega, fun c3 => ⟨by omega, by omega, key s ?_⟩, fun c3 => ⟨by omega, by omega, key 0 ?_⟩⟩
      · rw [r3, if_neg (fun q => c3 (cz.mpr q))]
      · rw [r3, if_pos (cz.mp (Decidable.not_not.mp c3))]
    · have := b2.mpr (Int.ofNat_lt.mpr q.2)
      omega
theorem setBody {g : mG} {S : mS} {v n m s : Int} {Qp : Option mV → mS → Prop} (hv : rv v) (hm : m = n.natAbs ∧ m ≤ 2147483647) (hs : s = n.sign) (k : ∀ S', va S' v (n : Rat) → vfr S S' (· = v) → Qp none S') :
    CX_put g [mt, mi 0, mi m] (mup S 3 (28 * v) s) (Qv fun S4 => mI S4 → CX_hold g [mt, mi v, mi 0, mi 1] S4 (Qv fun S5 => mI S5 → CX_put g [mt, mi 0, mi 1] S5 (Qv fun S6 => mI S6 → CX_hold g [mt, mi v, mi 0, mi 14] S6 (Qv fun S7 => mI S7 → Qp none S7)))) := by
  obtain ⟨v1, v2⟩ := id hv
  refine s_put (by decide) (by omega) (fun S4 h4 f4 => ?_)
  intro _
  have p13 : (2147483647 : Int) < 65536 ^ 13 := by decide
  rw [hm.1] at h4
  refine s_hold (by decide) hv (Or.inl rfl) h4 (by omega) (fun S5 h5 f5 => ?_)
  intro _
  refine s_put (by decide) (by decide) (fun S6 h6 f6 => ?_)
  intro _
  refine s_hold (x := 1) (by decide) hv (Or.inr rfl) h6 (by omega) (fun S7 h7 f7 => ?_)
  intro _
  refine k S7 ⟨?_, ?_, ?_⟩ ⟨fun j a b c => ?_, fun u hu i a b => ?_⟩
  · rw [f7.2 _ (by omega), f6.1 3 (by decide) (by decide), f5.2 _ (by omega), f4.1 3 (by decide) (by decide), mup_eq, hs]
    rfl
  · exact h5.keep (fun i a b => by rw [f7.2 i (by omega), f6.1 3 (by decide) (by decide)])
  · exact h7
  · rw [f7.1 j c, f6.1 j a b, f5.1 j c, f4.1 j a b, mupf j c]
  · rw [f7.2 i (by omega), f6.1 3 (by decide) (by decide), f5.2 i (by omega), f4.1 3 (by decide) (by decide), mup_nj (by omega)]
theorem s_setInt {g : mG} {S : mS} {v n : Int} {Qp : Option mV → mS → Prop} (hv : rv v) (hn : -2147483647 ≤ n ∧ n ≤ 2147483647) (k : ∀ S', va S' v (n : Rat) → vfr S S' (· = v) → Qp none S') : CX_setInt g [mt, mi v, mi n] S Qp := by
  obtain ⟨v1, v2⟩ := id hv
  refine of_setInt ?_
  intro _ _ _
  have B := fun (m s : Int) (h1 : m = n.natAbs ∧ m ≤ 2147483647) (h2 : s = n.sign) => setBody (g := g) (S := S) hv h1 h2 k
  refine ⟨by omega, fun c => ⟨fun c2 => ⟨by omega, by omega, fun c3 => B _ _ (by omega) ?_, fun c3 => absurd c2 c3⟩, fun c2 => ⟨by omega, by omega, fun c3 => absurd c3 c2, fun c3 => ⟨by omega, B _ _ (by omega) ?_⟩⟩⟩, fun c => ⟨by omega, by omega, fun c3 => B _ _ (by omega) ?_, fun c3 => ⟨by omega, B _ _ (by omega) ?_⟩⟩⟩
  · rw [show n = 0 by omega]; rfl
  · exact (Int.sign_eq_neg_one_of_neg (by omega)).symm
  · exact (Int.sign_eq_one_of_pos (by omega)).symm
  · omega

/-! the model's wide numbers: common, lowest -/
set_option maxRecDepth 100000
theorem cop2 {n : Nat} (h : n % 2 = 1) : Nat.Coprime 2 n := by
  unfold Nat.Coprime
  rw [Nat.gcd_rec, h]
  rfl
theorem gcd_half_l {a b : Nat} (ha : a % 2 = 0) (hb : b % 2 = 1) : Nat.gcd (a / 2) b = Nat.gcd a b := by
  have e : a = 2 * (a / 2) := by omega
  conv => rhs; rw [e]
  exact ((cop2 hb).gcd_mul_left_cancel (a / 2)).symm
theorem gcd_half_r {a b : Nat} (hb : b % 2 = 0) (ha : a % 2 = 1) : Nat.gcd a (b / 2) = Nat.gcd a b := by
  rw [Nat.gcd_comm, gcd_half_l hb ha, Nat.gcd_comm]
theorem two_pow_lt (t : Nat) : t < 2 ^ t := Nat.lt_two_pow_self
/-- a r, b s: the numbers; t twos taken out -/
def coI (S : mS) (r s : Int) (x y : Nat) (st : Nat) (n : Nat) (l1 l2 l3 : Int) (T : mS) : Prop :=
  l1 = r ∧ l2 = s ∧ rfr S T (r2 r s) ∧ ∃ a b t : Nat, l3 = t ∧ rg T r a ∧ rg T s b ∧ 0 < b ∧ b * 2 ^ t ≤ y ∧ a ≤ x ∧ Nat.gcd a b * 2 ^ t = Nat.gcd x y ∧
  (st = 3 ∨ (a = 0 ∨ a % 2 = 1 ∨ b % 2 = 1)) ∧ (st = 1 → a ≠ 0) ∧ (st = 0 → a % 2 = 1) ∧ n = 3 * (a + b) + st + t
def coF (S : mS) (r s : Int) (x y : Nat) (n : Nat) (l1 l3 l4 : Int) (T : mS) : Prop :=
  l1 = r ∧ rfr S T (r2 r s) ∧ ∃ G t i : Nat, l3 = t ∧ l4 = i ∧ i ≤ t ∧ rg T r ((G * 2 ^ i : Nat) : Int) ∧ G * 2 ^ t = Nat.gcd x y ∧ n = t - i
theorem s_common {g : mG} {S : mS} {r s : Int} {x y : Nat} {Qp : Option mV → mS → Prop} (hr : 0 ≤ r ∧ r < 16) (hs : 0 ≤ s ∧ s < 16) (hne : r ≠ s) (h : rg S r x) (h' : rg S s y) (hy : 0 < y) (hsz : S 2 r < 440 ∧ S 2 s < 440)
    (k : ∀ S', rg S' r (Nat.gcd x y : Nat) → rfr S S' (r2 r s) → Qp none S') : CX_common g [mt, mi r, mi s] S Qp := by
  have y0 := rg.lt h'.1
  have x0 := rg.lt h.1
  have gr := h.1.1
  have gs := h'.1.1
  have tb : ∀ b t : Nat, 0 < b → b * 2 ^ t ≤ y → t < 7040 := by
    intro b t hb hbt
    have h1 : 1 * 2 ^ t ≤ b * 2 ^ t := Nat.mul_le_mul_right _ hb
    have h2 := p16_le (a := (S 2 s).toNat) (b := 440) (by omega)
    rcases Nat.lt_or_ge t 7040 with q | q
    · exact q
    · exfalso
      have h3 : (2 : Nat) ^ 7040 ≤ 2 ^ t := Nat.pow_le_pow_right (by decide) q
      have h4 : (65536 : Int) ^ 440 = ((2 ^ 7040 : Nat) : Int) := by
        rw [p16_2, Int.natCast_pow]
        rfl
      have h5 : ((2 ^ 7040 : Nat) : Int) ≤ y := by
        have : (2 : Nat) ^ 7040 ≤ y := by omega
        exact Int.ofNat_le.mpr this
      generalize ((2 ^ 7040 : Nat) : Int) = W at h4 h5
      omega
  have tw : ∀ (b t : Nat), 0 < t → b ≤ b * 2 ^ t := fun b t _ => Nat.le_mul_of_pos_right b (Nat.two_pow_pos t)
  have bit0 : ∀ (a : Nat), (a : Int) / 2 ^ (0 : Int).toNat % 2 = ((a % 2 : Nat) : Int) := fun a => by
    show (a : Int) / 1 % 2 = _
    omega
  have hfa : ∀ a : Nat, (a : Int) / 2 = ((a / 2 : Nat) : Int) := fun a => by omega
  have xr : ∀ {T T' : mS}, rfr S T (r2 r s) → rfr T T' (· = r) → rfr S T' (r2 r s) := fun a b => a.trans (b.mono (fun j q => Or.inl q))
  have xs : ∀ {T T' : mS}, rfr S T (r2 r s) → rfr T T' (· = s) → rfr S T' (r2 r s) := fun a b => a.trans (b.mono (fun j q => Or.inr q))
  have hsr : s ≠ r := fun z => hne z.symm
  refine of_common (coI S r s x y 3) (coI S r s x y 2) (coI S r s x y 1) (coI S r s x y 0) (coF S r s x y) ?_ ?_ ?_ ?_ ?_ ?_
  · intro _ _ _
    exact ⟨_, rfl, rfl, rfr.refl, x, y, 0, rfl, h, h', hy, by simp, Nat.le_refl _, by simp, Or.inl rfl, by omega, by omega, rfl⟩
  · rintro n l1 l2 l3 T hS _ _ _ ⟨rfl, rfl, c1, a, b, t, rfl, c2, c3, c4, c5, c6, c7, -, -, -, rfl⟩
    have tlt := tb b t c4 c5
    have az : T 2 l1 = 0 ↔ a = 0 := by
      constructor
      · intro q
        have := c2.1.2.2.2
        rw [q] at this
        have : (0 : Int) = a := this
        omega
      · intro q
        subst q
        rcases c2.2 with z | z
        · exact z
        · by_cases hz : T 2 l1 = 0
          · exact hz
          · exfalso
            have g1 := c2.1.1
            obtain ⟨m, hm⟩ : ∃ m : Nat, T 2 l1 = m + 1 := ⟨(T 2 l1 - 1).toNat, by omega⟩
            have := c2.top hm
            have := p16_pos m
            omega
    have g1 := c2.1.1
    refine ⟨by omega, by omega, fun c => ?_, fun c => ?_⟩
    · exact ⟨_, by omega, rfl, rfl, c1, a, b, t, rfl, c2, c3, c4, c5, c6, c7, Or.inr (Or.inl (az.mp (by omega))), by omega, by omega, rfl⟩
    · have a1 : a ≠ 0 := fun q => c (by have := az.mpr q; omega)
      refine s_isBit hr c2 (by omega) ?_
      intro _ _
      rw [bit0]
      refine ⟨fun c8 => ⟨_, by omega, rfl, rfl, c1, a, b, t, rfl, c2, c3, c4, c5, c6, c7, Or.inr (Or.inr (Or.inl (by omega))), by omega, by omega, rfl⟩, fun c8 => ?_⟩
      refine s_isBit hs c3 (by omega) ?_
      intro _ _
      rw [bit0]
      refine ⟨fun c9 => ⟨_, by omega, rfl, rfl, c1, a, b, t, rfl, c2, c3, c4, c5, c6, c7, Or.inr (Or.inr (Or.inr (by omega))), by omega, by omega, rfl⟩, fun c9 => ?_⟩
      refine s_halve hr c2.1 (fun S7 h7 f7 => ?_)
      intro _
      refine s_halve hs (c3.keep f7 hsr).1 (fun S8 h8 f8 => ?_)
      intro _
      rw [hfa] at h7 h8
      have ea : a = 2 * (a / 2) := by omega
      have eb : b = 2 * (b / 2) := by omega
      refine ⟨by omega, _, ?_, rfl, rfl, xs (xr c1 f7) f8, a / 2, b / 2, t + 1, by omega, h7.keep f8 hne, h8, by omega, ?_, by omega, ?_, Or.inl rfl, by omega, by omega, rfl⟩
      · omega
      · rw [Nat.pow_succ, Nat.mul_comm (2 ^ t) 2, ← Nat.mul_assoc, show b / 2 * 2 = b by omega]
        exact c5
      · rw [← c7, Nat.pow_succ, Nat.mul_comm (2 ^ t) 2, ← Nat.mul_assoc]
        conv => rhs; rw [ea, eb, Nat.gcd_mul_left]
        rw [Nat.mul_comm (Nat.gcd _ _) 2]
  · rintro n l1 l2 l3 T hS _ _ _ ⟨rfl, rfl, c1, a, b, t, rfl, c2, c3, c4, c5, c6, c7, c8, -, -, rfl⟩
    have tlt := tb b t c4 c5
    have g1 := c2.1.1
    refine ⟨by omega, by omega, fun c => ?_, fun c => ?_⟩
    · have a0 : a = 0 := by
        have := c2.1.2.2.2
        rw [show (T 2 l1).toNat = 0 by omega] at this
        have : (0 : Int) = a := this
        omega
      subst a0
      refine s_copy hr hs hne c3 (fun S3 h3 f3 => ?_)
      intro _
      rw [Nat.gcd_zero_left] at c7
      refine ⟨t - 0, by omega, rfl, xr c1 f3, b, t, 0, rfl, rfl, Nat.zero_le _, by simpa using h3, c7, rfl⟩
    · refine ⟨_, ?_, rfl, rfl, c1, a, b, t, rfl, c2, c3, c4, c5, c6, c7, Or.inr (by omega), fun _ => ?_, by omega, rfl⟩
      · omega
      · intro q
        subst q
        rcases c2.2 with z | z
        · omega
        · obtain ⟨m, hm⟩ : ∃ m : Nat, T 2 l1 = m + 1 := ⟨(T 2 l1 - 1).toNat, by omega⟩
          have := c2.top hm
          have := p16_pos m
          omega
  · rintro n l1 l2 l3 T hS _ _ _ ⟨rfl, rfl, c1, a, b, t, rfl, c2, c3, c4, c5, c6, c7, c8, c9, -, rfl⟩
    have a1 := c9 rfl
    have tlt := tb b t c4 c5
    refine s_isBit hr c2 (by omega) ?_
    intro _ _
    rw [bit0]
    refine ⟨fun c => ⟨_, ?_, rfl, rfl, c1, a, b, t, rfl, c2, c3, c4, c5, c6, c7, Or.inr (by omega), fun _ => a1, fun _ => by omega, rfl⟩, fun c => ?_⟩
    · omega
    · refine s_halve hr c2.1 (fun S3 h3 f3 => ?_)
      intro _
      rw [hfa] at h3
      have hb : b % 2 = 1 := by
        rcases c8 with z | z | z | z
        · cases z
        · exact absurd z a1
        · omega
        · exact z
      refine ⟨_, ?_, rfl, rfl, xr c1 f3, a / 2, b, t, rfl, h3, c3.keep f3 hsr, c4, c5, by omega, ?_, Or.inr (Or.inr (Or.inr hb)), fun _ => by omega, by omega, rfl⟩
      · omega
      · rw [gcd_half_l (by omega) hb]
        exact c7
  · rintro n l1 l2 l3 T hS _ _ _ ⟨rfl, rfl, c1, a, b, t, rfl, c2, c3, c4, c5, c6, c7, c8, -, c9, rfl⟩
    have a1 := c9 rfl
    have tlt := tb b t c4 c5
    refine s_isBit hs c3 (by omega) ?_
    intro _ _
    rw [bit0]
    refine ⟨fun c => ?_, fun c => ?_⟩
    · refine s_compare hr hs c2 c3 (fun v hv1 hv2 => ?_)
      intro _ _
      refine ⟨fun q => ?_, fun q => ?_⟩
      · have hab : a < b := by omega
        refine s_minus hs hr hsr c3 c2 (by omega) (fun S5 h5 f5 => ?_)
        intro _
        rw [show (b : Int) - a = ((b - a : Nat) : Int) by omega] at h5
        refine ⟨_, ?_, rfl, rfl, xs c1 f5, a, b - a, t, rfl, c2.keep f5 hne, h5, by omega, ?_, c6, ?_, Or.inr (Or.inr (Or.inl a1)), by omega, by omega, rfl⟩
        · omega
        · exact Nat.le_trans (Nat.mul_le_mul_right _ (by omega)) c5
        · rw [Nat.gcd_sub_self_right (by omega)]
          exact c7
      · have hab : b ≤ a := by omega
        refine s_minus hr hs hne c2 c3 (by omega) (fun S6 h6 f6 => ?_)
        intro _
        rw [show (a : Int) - b = ((a - b : Nat) : Int) by omega] at h6
        refine ⟨_, ?_, rfl, rfl, xr c1 f6, a - b, b, t, rfl, h6, c3.keep f6 hsr, c4, c5, by omega, ?_, Or.inr (Or.inr (Or.inr (by omega))), by omega, by omega, rfl⟩
        · omega
        · rw [Nat.gcd_comm, Nat.gcd_sub_self_right hab, Nat.gcd_comm]
          exact c7
    · refine s_halve hs c3.1 (fun S7 h7 f7 => ?_)
      intro _
      rw [hfa] at h7
      refine ⟨_, ?_, rfl, rfl, xs c1 f7, a, b / 2, t, rfl, c2.keep f7 hne, h7, by omega, ?_, c6, ?_, Or.inr (Or.inr (Or.inl a1)), by omega, fun _ => a1, rfl⟩
      · omega
      · exact Nat.le_trans (Nat.mul_le_mul_right _ (by omega)) c5
      · rw [gcd_half_r (by omega) a1]
        exact c7
  · rintro n l1 l3 l4 T hS _ _ _ ⟨rfl, c1, G, t, i, rfl, rfl, c2, c3, c4, rfl⟩
    have hle : G * 2 ^ i ≤ Nat.gcd x y := by
      rw [← c4]
      exact Nat.mul_le_mul_left _ (Nat.pow_le_pow_right (by decide) c2)
    have hgy : Nat.gcd x y ≤ y := Nat.le_of_dvd hy (Nat.gcd_dvd_right x y)
    refine ⟨fun c => ?_, fun c => ?_⟩
    · have e : i = t := by omega
      subst e
      rw [c4] at c3
      exact k T c3 c1
    · have tg : t < 7040 := by
        have : 0 < G := by
          rcases Nat.eq_zero_or_pos G with q | q
          · subst q
            have hp := Nat.gcd_pos_of_pos_right x hy
            rw [Nat.zero_mul] at c4
            omega
          · exact q
        exact tb G t this (by rw [c4]; exact hgy)
      refine s_twice hr (Or.inl rfl) c3 (by have := c3.size2 (n := S 2 s) gs (y := y) (by omega) y0.2; omega) (fun S1 h1 f1 => ?_)
      intro _
      refine ⟨by omega, _, ?_, rfl, xr c1 f1, G, t, i + 1, rfl, by omega, by omega, ?_, c4, rfl⟩
      · omega
      · rw [show ((G * 2 ^ (i + 1) : Nat) : Int) = 2 * ((G * 2 ^ i : Nat) : Int) + 0 by rw [Nat.pow_succ, ← Nat.mul_assoc]; omega]
        exact h1
def lowT (n d : Int) : Int → Prop := fun j => j = n ∨ j = d ∨ 12 ≤ j
theorem rg.zero {S : mS} {r : Int} {x : Int} (h : rg S r x) : S 2 r = 0 ↔ x = 0 := by
  constructor
  · intro q
    have := h.1.2.2.2
    rw [q] at this
    exact this.symm
  · intro q
    have g1 := h.1.1
    rcases Int.lt_or_le 0 (S 2 r) with z | z
    · obtain ⟨m, hm⟩ : ∃ m : Nat, S 2 r = m + 1 := ⟨(S 2 r - 1).toNat, by omega⟩
      have := h.top hm
      have := p16_pos m
      omega
    · omega
theorem s_lowest {g : mG} {S : mS} {n d : Int} {x y : Nat} {Qp : Option mV → mS → Prop} (hn : 0 ≤ n ∧ n < 12) (hd : 0 ≤ d ∧ d < 12) (hne : n ≠ d) (h : rg S n x) (h' : rg S d y) (hy : 0 < y) (hsz : S 2 n < 440 ∧ S 2 d < 440)
    (k : ∀ S', rg S' n (x / Nat.gcd x y : Nat) → rg S' d (y / Nat.gcd x y : Nat) → rfr S S' (lowT n d) → Qp none S') : CX_lowest g [mt, mi n, mi d] S Qp := by
  have hz := h.zero
  have x0 := rg.lt h.1
  have y0 := rg.lt h'.1
  have gr := h.1.1
  have gs := h'.1.1
  refine of_lowest ?_
  intro _ _ _
  refine ⟨by omega, by omega, fun c => ?_, fun c => ?_⟩
  · have x1 : 0 < x := by
      rcases Nat.eq_zero_or_pos x with q | q
      · exact absurd (hz.mpr (by omega)) c
      · exact q
    refine s_copy (by omega) (by omega) (by omega) h (fun S3 h3 f3 => ?_)
    intro _
    have k3 : rg S3 d y := h'.keep f3 (by omega)
    refine s_copy (by omega) (by omega) (by omega) k3 (fun S4 h4 f4 => ?_)
    intro _
    have k12 : rg S4 12 x := h3.keep f4 (by omega)
    have kn : rg S4 n x := (h.keep f3 (by omega)).keep f4 (by omega)
    have kd : rg S4 d y := k3.keep f4 (by omega)
    have sz12 : S4 2 12 ≤ S 2 n := k12.size2 gr (Int.le_refl _) x0.2
    have sz13 : S4 2 13 ≤ S 2 d := h4.size2 gs (Int.le_refl _) y0.2
    refine s_common (by omega) (by omega) (by omega) k12 h4 hy (by omega) (fun S5 h5 f5 => ?_)
    intro _
    have gp : 0 < Nat.gcd x y := Nat.gcd_pos_of_pos_right x hy
    have gx := Nat.gcd_dvd_left x y
    have gy := Nat.gcd_dvd_right x y
    have gle : Nat.gcd x y ≤ x := Nat.le_of_dvd x1 gx
    generalize hG : Nat.gcd x y = G at *
    have kn5 : rg S5 n x := kn.keep f5 (fun z => by rcases z with z | z <;> omega)
    have kd5 : rg S5 d y := kd.keep f5 (fun z => by rcases z with z | z <;> omega)
    have szn : S5 2 n ≤ S 2 n := kn5.size2 gr (Int.le_refl _) x0.2
    have szd : S5 2 d ≤ S 2 d := kd5.size2 gs (Int.le_refl _) y0.2
    have szg : S5 2 12 ≤ S 2 n := h5.size2 gr (y := x) (by omega) x0.2
    have fa : rfr S S5 (lowT n d) := ((f3.mono (fun j q => Or.inr (Or.inr (by omega)))).trans (f4.mono (fun j q => Or.inr (Or.inr (by omega))))).trans (f5.mono (fun j q => Or.inr (Or.inr (by rcases q with q | q <;> omega))))
    have more : CX_copy g [mt, mi 13, mi 12] S5 (Qv fun S6 => mI S6 → CX_divide g [mt, mi 14, mi 15, mi n, mi 13] S6 (Qv fun S7 => mI S7 → CX_copy g [mt, mi n, mi 14] S7 (Qv fun S8 => mI S8 → CX_divide g [mt, mi 14, mi 15, mi d, mi 13] S8 (Qv fun S9 => mI S9 → CX_copy g [mt, mi d, mi 14] S9 (Qv fun S10 => mI S10 → Qp none S10))))) := by
      refine s_copy (by omega) (by omega) (by omega) h5 (fun S6 h6 f6 => ?_)
      intro _
      have n6 := kn5.keep f6 (by omega)
      have d6 := kd5.keep f6 (by omega)
      have e6n := (f6.2 n (by omega)).1
      have e6d := (f6.2 d (by omega)).1
      have sz6 : S6 2 13 ≤ S 2 n := h6.size2 gr (y := x) (by omega) x0.2
      refine s_divide (by omega) (by omega) (by omega) (by omega) (by omega) (by omega) (by omega) (by omega) (by omega) n6 h6 (by omega) (by omega) (fun S7 h7 _ f7 => ?_)
      intro _
      rw [show (x : Int) / (G : Int) = ((x / G : Nat) : Int) from (Int.natCast_ediv x G).symm] at h7
      have n14 : ∀ j : Int, (j = 13 ∨ j < 12) → ¬ r2 14 15 j := fun j hj z => by rcases z with z | z <;> omega
      have d7 := d6.keep f7 (n14 d (by omega))
      have g7 := h6.keep f7 (n14 13 (by omega))
      have e7d := (f7.2 d (n14 d (by omega))).1
      have e7g := (f7.2 13 (n14 13 (by omega))).1
      refine s_copy (by omega) (by omega) (by omega) h7 (fun S8 h8 f8 => ?_)
      intro _
      have d8 := d7.keep f8 (by omega)
      have g8 := g7.keep f8 (by omega)
      have e8d := (f8.2 d (by omega)).1
      have e8g := (f8.2 13 (by omega)).1
      refine s_divide (by omega) (by omega) (by omega) (by omega) (by omega) (by omega) (by omega) (by omega) (by omega) d8 g8 (by omega) (by omega) (fun S9 h9 _ f9 => ?_)
      intro _
      rw [show (y : Int) / (G : Int) = ((y / G : Nat) : Int) from (Int.natCast_ediv y G).symm] at h9
      have n9 := h8.keep f9 (n14 n (by omega))
      refine s_copy (by omega) (by omega) (by omega) h9 (fun S10 h10 f10 => ?_)
      intro _
      refine k S10 (n9.keep f10 (by omega)) h10 ?_
      refine ((((fa.trans (f6.mono (fun j q => Or.inr (Or.inr (by omega))))).trans (f7.mono (fun j q => Or.inr (Or.inr (by rcases q with q | q <;> omega))))).trans (f8.mono (fun j q => Or.inl q))).trans (f9.mono (fun j q => Or.inr (Or.inr (by rcases q with q | q <;> omega))))).trans (f10.mono (fun j q => Or.inr (Or.inl q)))
    refine ⟨fun _ => more, fun c1 => ⟨fun c2 => ?_, fun _ => more⟩⟩
    have G1 : G = 1 := by
      have hv := h5.1.2.2.2
      have h0 := h5.zero
      have hs1 : S5 2 12 = 1 := by
        have := h5.1.1
        rcases Int.lt_or_le (S5 2 12) 1 with q | q
        · exfalso
          have := h0.mp (by omega)
          omega
        · omega
      rw [hs1] at hv
      have : (0 : Int) + S5 1 (440 * 12 + ((0 : Nat) : Int)) * 1 = G := hv
      have e : (440 * 12 + ((0 : Nat) : Int)) = 5280 := by decide
      rw [e] at this
      omega
    subst G1
    rw [Nat.div_one, Nat.div_one] at k
    exact k S5 kn5 kd5 fa
  · have x1 : x = 0 := by
      have := hz.mp (Decidable.not_not.mp c)
      omega
    subst x1
    rw [Nat.gcd_zero_left, Nat.zero_div, Nat.div_self hy] at k
    refine s_put (by omega) (by decide) (fun S16 h16 f16 => ?_)
    intro _
    exact k S16 (h.keep f16 (by omega)) h16 (f16.mono (fun j q => Or.inr (Or.inl q)))

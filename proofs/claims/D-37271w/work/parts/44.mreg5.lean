/-! the model's wide numbers: minus, twice, halve -/
set_option maxRecDepth 100000
def miI (S : mS) (r s : Int) (n : Nat) (l1 l2 l3 l4 : Int) (T : mS) : Prop :=
  l1 = r ∧ l2 = s ∧ 0 ≤ l4 ∧ l4 ≤ S 2 r ∧ (l3 = 0 ∨ l3 = 1) ∧ T 2 = S 2 ∧ rfr S T (· = r) ∧ (∀ j, l4 ≤ j → j < 440 → T 1 (440 * r + j) = S 1 (440 * r + j)) ∧ lim (T 1) (440 * r) l4 ∧
  lv (T 1) (440 * r) l4.toNat + lv (pad S s) 0 l4.toNat = lv (pad S r) 0 l4.toNat + l3 * 65536 ^ l4.toNat ∧ n = (S 2 r - l4).toNat
theorem miI.step {S : mS} {r s x y : Int} {n : Nat} {l1 l2 l3 l4 : Int} {T : mS} (hx : ru S r x) (hy : ru S s y) (hr : 0 ≤ r) (h : miI S r s n l1 l2 l3 l4 T) (hc : l4 < S 2 r) {v b : Int} (hv : v = pad S r l4 - l3 - pad S s l4) (hb : (0 ≤ v ∧ b = 0) ∨ (v < 0 ∧ b = 1)) :
    ∃ n1, n1 < n ∧ miI S r s n1 l1 l2 b (l4 + 1) (mup T 1 (440 * l1 + l4) (v % 65536)) := by
  obtain ⟨rfl, rfl, a1, a2, a3, a5, a6, a7, a8, a9, rfl⟩ := h
  have p1 := pad_bd hx a1
  have p2 := pad_bd hy a1
  obtain ⟨k, hk⟩ : ∃ k : Nat, l4 = k := ⟨l4.toNat, by omega⟩
  subst hk
  have := hx.2.1
  have e1 : ((k : Int) + 1).toNat = k + 1 := by omega
  have e0 : (k : Int).toNat = k := by omega
  rw [e0] at a9
  have hm : v % 65536 = v + b * 65536 := by omega
  refine ⟨_, ?_, rfl, rfl, by omega, by omega, by omega, ?_, ?_, fun j b1 b2 => ?_, fun j b1 b2 => ?_, ?_, rfl⟩
  · omega
  · rw [mupf 2 (by decide)]; exact a5
  · exact a6.trans ⟨fun k a b => mupf k a, fun j hj => ⟨mup_ne (by decide), fun i a b => mup_nj (by omega)⟩⟩
  · rw [mup_nj (by omega)]; exact a7 j (by omega) b2
  · rw [mup_at]
    split
    · omega
    · exact a8 j b1 (by omega)
  · rw [e1, mup_fn]
    show (lv _ _ k + (if 440 * l1 + (k : Int) = 440 * l1 + k then v % 65536 else T 1 (440 * l1 + k)) * 65536 ^ k) + (lv (pad S l2) 0 k + pad S l2 (0 + k) * 65536 ^ k) = (lv (pad S l1) 0 k + pad S l1 (0 + k) * 65536 ^ k) + _
    rw [lv_upd, if_neg (by omega), if_pos rfl, Int.pow_succ, Int.zero_add, hm, hv]
    generalize (65536 : Int) ^ k = P at a9 ⊢
    grind
theorem s_minus {g : mG} {S : mS} {r s x y : Int} {Qp : Option mV → mS → Prop} (hr : 0 ≤ r ∧ r < 16) (hs : 0 ≤ s ∧ s < 16) (hne : r ≠ s) (h : rg S r x) (h' : rg S s y) (hxy : y ≤ x) (k : ∀ S', rg S' r (x - y) → rfr S S' (· = r) → Qp none S') : CX_minus g [mt, mi r, mi s] S Qp := by
  have x0 := rg.lt h.1
  have hsz := h'.size_le (n := (S 2 r).toNat) (by omega)
  have g1 := h.1.1
  have g2 := h.1.2.1
  have d1 := h'.1.1
  refine of_minus (miI S r s) ?_ ?_
  · intro _ _ _
    exact ⟨_, rfl, rfl, Int.le_refl _, g1, Or.inl rfl, rfl, rfr.refl, fun _ _ _ => rfl, fun j a b => by omega, rfl, rfl⟩
  · rintro n l1 l2 l3 l4 T hS _ _ _ _ hI
    have hI2 := hI
    obtain ⟨rfl, rfl, a1, a2, a3, a5, a6, a7, a8, a9, -⟩ := hI
    have sz1 : T 2 l1 = S 2 l1 := by rw [a5]
    have sz2 : T 2 l2 = S 2 l2 := by rw [a5]
    have p1 := pad_bd h.1 a1
    have p2 := pad_bd h'.1 a1
    have o1 : l4 < S 2 l1 → T 1 (440 * l1 + l4) = pad S l1 l4 := fun q => by rw [pad_in q]; exact a7 l4 (by omega) (by omega)
    have o2 : l4 < S 2 l2 → T 1 (440 * l2 + l4) = pad S l2 l4 := fun q => by rw [pad_in q]; exact (a6.2 l2 (fun z => hne z.symm)).2 _ (by omega) (by omega)
    have q2 : S 2 l2 ≤ l4 → pad S l2 l4 = 0 := pad_out
    have stp := fun (hc : l4 < S 2 l1) (v b : Int) => miI.step (v := v) (b := b) h.1 h'.1 hr.1 hI2 hc
    rw [sz1, sz2]
    refine ⟨by omega, by omega, fun c => ?_, fun c => ?_⟩
    · have hl : l4 = S 2 l1 := by omega
      subst hl
      rw [pad_lv h.1 (by omega), pad_lv h'.1 (by omega)] at a9
      have hb := lv_bd (f := T 1) (b := 440 * l1) (n := (S 2 l1).toNat) (fun j a b => a8 j a (by omega))
      have hz : l3 = 0 := by
        rcases a3 with q | q
        · exact q
        · rw [q] at a9; omega
      rw [hz] at a9
      refine s_trim hr ⟨by omega, by omega, ?_, ?_⟩ (fun S' b1 b2 _ => k S' b1 (a6.trans b2))
      · rw [sz1]; exact a8
      · rw [sz1]; omega
    · have c' : l4 < S 2 l1 := by omega
      have o1' := o1 c'
      repeat' (first | apply And.intro | intro _ | omega)
      all_goals exact stp c' _ _ (by omega) (by omega)
def twI (S : mS) (r b : Int) (n : Nat) (l1 l3 l4 : Int) (T : mS) : Prop :=
  l1 = r ∧ 0 ≤ l4 ∧ l4 ≤ S 2 r ∧ (l3 = 0 ∨ l3 = 1) ∧ T 2 = S 2 ∧ rfr S T (· = r) ∧ (∀ j, l4 ≤ j → j < 440 → T 1 (440 * r + j) = S 1 (440 * r + j)) ∧ lim (T 1) (440 * r) l4 ∧
  lv (T 1) (440 * r) l4.toNat + l3 * 65536 ^ l4.toNat = 2 * lv (S 1) (440 * r) l4.toNat + b ∧ n = (S 2 r - l4).toNat
theorem s_twice {g : mG} {S : mS} {r b x : Int} {Qp : Option mV → mS → Prop} (hr : 0 ≤ r ∧ r < 16) (hb : b = 0 ∨ b = 1) (h : rg S r x) (hsz : S 2 r < 440) (k : ∀ S', rg S' r (2 * x + b) → rfr S S' (· = r) → Qp none S') : CX_twice g [mt, mi r, mi b] S Qp := by
  have x0 := rg.lt h.1
  obtain ⟨g1, g2, g3, g4⟩ := id h.1
  refine of_twice (twI S r b) ?_ ?_
  · intro _ _ _
    refine ⟨_, rfl, Int.le_refl _, g1, hb, rfl, rfr.refl, fun _ _ _ => rfl, fun j a b => by omega, ?_, rfl⟩
    show (0 : Int) + b * 1 = 2 * 0 + b
    omega
  · rintro n l1 l3 l4 T hS _ _ _ ⟨rfl, a1, a2, a3, a5, a6, a7, a8, a9, rfl⟩
    have sz1 : T 2 l1 = S 2 l1 := by rw [a5]
    rw [sz1]
    refine ⟨by omega, by omega, fun c => ⟨fun c2 => ?_, fun c2 => ?_⟩, fun c => ?_⟩
    · have hl : l4 = S 2 l1 := by omega
      subst hl
      have hz : l3 = 0 := by omega
      rw [hz, g4] at a9
      refine k T (rg_of ⟨by omega, by omega, by rw [sz1]; exact a8, by rw [sz1]; omega⟩ (Or.inr fun m hm => ?_)) a6
      have := h.top (m := m) (by omega)
      omega
    · have hl : l4 = S 2 l1 := by omega
      subst hl
      have hz : l3 = 1 := by omega
      subst hz
      rw [g4] at a9
      obtain ⟨m, hm⟩ : ∃ m : Nat, S 2 l1 = m := ⟨(S 2 l1).toNat, by omega⟩
      have em : (S 2 l1).toNat = m := by omega
      rw [em] at a9
      have hlv := lv_bd (f := T 1) (b := 440 * l1) (n := m) (fun j a b => a8 j a (by omega))
      refine ⟨by omega, by omega, by omega, by omega, by omega, k _ (rg_of ⟨?_, ?_, ?_, ?_⟩ (Or.inr fun q hq => ?_)) ?_⟩
      · rw [mup_eq]; omega
      · rw [mup_eq]; omega
      · rw [mup_eq, mupf 1 (by decide), mup_fn]
        intro j b1 b2
        dsimp only
        split
        · omega
        · exact a8 j b1 (by omega)
      · rw [mup_eq, mupf 1 (by decide), mup_fn, hm, show ((m : Int) + 1).toNat = m + 1 by omega]
        show lv _ _ m + (if 440 * l1 + (m : Int) = 440 * l1 + m then (1 : Int) else T 1 (440 * l1 + m)) * 65536 ^ m = _
        rw [lv_upd, if_neg (by omega), if_pos rfl]
        exact a9
      · rw [mup_eq] at hq
        rw [show q = m by omega]
        omega
      · refine a6.trans ⟨fun k a b => by rw [mupf k b, mupf k a], fun j hj => ⟨by rw [mup_nj hj, mup_ne (by decide)], fun i a b => by rw [mup_ne (by decide), mup_nj (by omega)]⟩⟩
    · have c' : l4 < S 2 l1 := by omega
      have e := a7 l4 (by omega) (by omega)
      have e2 := g3 l4 a1 c'
      obtain ⟨m, hm⟩ : ∃ m : Nat, l4 = m := ⟨l4.toNat, by omega⟩
      subst hm
      have e0 : (m : Int).toNat = m := by omega
      rw [e0] at a9
      rw [e]
      refine ⟨by omega, by omega, by omega, by omega, by omega, by omega, by omega, (S 2 l1 - (m + 1)).toNat, by omega, rfl, by omega, by omega, by omega, ?_, ?_, fun j b1 b2 => ?_, fun j b1 b2 => ?_, ?_, rfl⟩
      · rw [mupf 2 (by decide)]; exact a5
      · exact a6.trans ⟨fun k a b => mupf k a, fun j hj => ⟨mup_ne (by decide), fun i a b => mup_nj (by omega)⟩⟩
      · rw [mup_nj (by omega)]; exact a7 j (by omega) b2
      · rw [mup_at]
        split
        · omega
        · exact a8 j b1 (by omega)
      · rw [mup_fn, show ((m : Int) + 1).toNat = m + 1 by omega]
        show (lv _ _ m + (if 440 * l1 + (m : Int) = 440 * l1 + m then _ else T 1 (440 * l1 + m)) * 65536 ^ m) + _ = 2 * (lv (S 1) (440 * l1) m + S 1 (440 * l1 + m) * 65536 ^ m) + b
        rw [lv_upd, if_neg (by omega), if_pos rfl, Int.pow_succ]
        have hm2 := Int.emod_add_mul_ediv (2 * S 1 (440 * l1 + m) + l3) 65536
        generalize (2 * S 1 (440 * l1 + m) + l3) % 65536 = mm at hm2 ⊢
        generalize (2 * S 1 (440 * l1 + m) + l3) / 65536 = q at hm2 ⊢
        generalize (65536 : Int) ^ m = P at a9 ⊢
        grind
theorem or_15 {u b : Int} (hu : 0 ≤ u ∧ u < 32768) (hb : b = 0 ∨ b = 1) : (Int32.ofInt u ||| Int32.ofInt (b * 32768)).toInt = u + b * 32768 := by
  have h1 : Int32.ofInt u ||| Int32.ofInt (b * 32768) = Int32.ofInt (u + b * 32768) := by
    rw [ms_nI hu.1, ms_nI (by omega), ms_nI (by omega)]
    apply Int32.toBitVec_inj.mp
    apply BitVec.eq_of_toNat_eq
    rw [Int32.toBitVec_or, BitVec.toNat_or, pk_tn (by omega), pk_tn (by omega), pk_tn (by omega)]
    have h2 := Nat.two_pow_add_eq_or_of_lt (i := 15) (b := u.toNat) (by omega) b.toNat
    rw [Nat.or_comm, show (b * 32768).toNat = 2 ^ 15 * b.toNat by omega, ← h2]
    omega
  rw [h1, i32_lt ⟨by omega, by omega⟩]
def haI (S : mS) (r : Int) (n : Nat) (l1 l2 : Int) (T : mS) : Prop :=
  l1 = r ∧ 0 ≤ l2 ∧ l2 ≤ S 2 r ∧ T 2 = S 2 ∧ rfr S T (· = r) ∧ (∀ j, l2 ≤ j → j < 440 → T 1 (440 * r + j) = S 1 (440 * r + j)) ∧ lim (T 1) (440 * r) l2 ∧
  2 * lv (T 1) (440 * r) l2.toNat + pad S r 0 % 2 = lv (pad S r) 0 l2.toNat + pad S r l2 % 2 * 65536 ^ l2.toNat ∧ n = (S 2 r - l2).toNat
theorem haI.step {S : mS} {r x : Int} {n : Nat} {l1 l2 : Int} {T : mS} (hx : ru S r x) (hr : 0 ≤ r) (h : haI S r n l1 l2 T) (hc : l2 < S 2 r) {v : Int} (hv : v = pad S r l2 / 2 + pad S r (l2 + 1) % 2 * 32768) :
    ∃ n1, n1 < n ∧ haI S r n1 l1 (l2 + 1) (mup T 1 (440 * l1 + l2) v) := by
  obtain ⟨rfl, a1, a2, a5, a6, a7, a8, a9, rfl⟩ := h
  have p1 := pad_bd hx a1
  have p2 := pad_bd hx (i := l2 + 1) (by omega)
  obtain ⟨k, hk⟩ : ∃ k : Nat, l2 = k := ⟨l2.toNat, by omega⟩
  subst hk
  have := hx.2.1
  have e1 : ((k : Int) + 1).toNat = k + 1 := by omega
  have e0 : (k : Int).toNat = k := by omega
  rw [e0] at a9
  refine ⟨_, ?_, rfl, by omega, by omega, ?_, ?_, fun j b1 b2 => ?_, fun j b1 b2 => ?_, ?_, rfl⟩
  · omega
  · rw [mupf 2 (by decide)]; exact a5
  · exact a6.trans ⟨fun k a b => mupf k a, fun j hj => ⟨mup_ne (by decide), fun i a b => mup_nj (by omega)⟩⟩
  · rw [mup_nj (by omega)]; exact a7 j (by omega) b2
  · rw [mup_at]
    split
    · omega
    · exact a8 j b1 (by omega)
  · rw [e1, mup_fn]
    show 2 * (lv _ _ k + (if 440 * l1 + (k : Int) = 440 * l1 + k then v else T 1 (440 * l1 + k)) * 65536 ^ k) + _ = (lv (pad S l1) 0 k + pad S l1 (0 + k) * 65536 ^ k) + _
    rw [lv_upd, if_neg (by omega), if_pos rfl, Int.pow_succ, Int.zero_add]
    have h2 : 2 * v = pad S l1 k - pad S l1 k % 2 + pad S l1 (k + 1) % 2 * 65536 := by omega
    generalize pad S l1 k % 2 = c at a9 h2 ⊢
    generalize pad S l1 (k + 1) % 2 = d at h2 ⊢
    generalize pad S l1 0 % 2 = z at a9 ⊢
    generalize (65536 : Int) ^ k = P at a9 ⊢
    grind
theorem s_halve {g : mG} {S : mS} {r x : Int} {Qp : Option mV → mS → Prop} (hr : 0 ≤ r ∧ r < 16) (h : ru S r x) (k : ∀ S', rg S' r (x / 2) → rfr S S' (· = r) → Qp none S') : CX_halve g [mt, mi r] S Qp := by
  obtain ⟨g1, g2, g3, g4⟩ := id h
  refine of_halve (haI S r) ?_ ?_
  · intro _ _
    refine ⟨_, rfl, Int.le_refl _, g1, rfl, rfr.refl, fun _ _ _ => rfl, fun j a b => by omega, ?_, rfl⟩
    show 2 * (0 : Int) + _ = 0 + _ * 1
    omega
  · rintro n l1 l2 T hS _ _ hI
    have hI2 := hI
    obtain ⟨rfl, a1, a2, a5, a6, a7, a8, a9, rfl⟩ := hI
    have sz1 : T 2 l1 = S 2 l1 := by rw [a5]
    rw [sz1]
    refine ⟨by omega, by omega, fun c => ?_, fun c => ?_⟩
    · have hl : l2 = S 2 l1 := by omega
      subst hl
      rw [pad_lv h (by omega), pad_out (Int.le_refl _)] at a9
      refine s_trim hr ⟨by omega, by omega, ?_, ?_⟩ (fun S' b1 b2 _ => k S' b1 (a6.trans b2))
      · rw [sz1]; exact a8
      · rw [sz1]; omega
    · have c' : l2 < S 2 l1 := by omega
      have e := a7 l2 (by omega) (by omega)
      have e2 := a7 (l2 + 1)
      have p1 := pad_bd h a1
      have p2 := pad_bd h (i := l2 + 1) (by omega)
      have f1 := pad_in c'
      have f2 : l2 + 1 < S 2 l1 → pad S l1 (l2 + 1) = S 1 (440 * l1 + (l2 + 1)) := pad_in
      have f3 : S 2 l1 ≤ l2 + 1 → pad S l1 (l2 + 1) = 0 := pad_out
      have e3 : 440 * l1 + l2 + 1 = 440 * l1 + (l2 + 1) := by omega
      rw [e3]
      refine ⟨by omega, fun c2 => ?_, fun c2 => ?_⟩
      · refine ⟨by omega, by omega, by omega, by omega, haI.step h hr.1 hI2 c' ?_⟩
        rw [or_15 (by omega) (Or.inl rfl)]
        omega
      · have e4 := e2 (by omega) (by omega)
        have f4 := f2 (by omega)
        refine ⟨by omega, by omega, by omega, by omega, by omega, by omega, by omega, by omega, by omega, haI.step h hr.1 hI2 c' ?_⟩
        rw [or_15 (by omega) (by omega)]
        omega

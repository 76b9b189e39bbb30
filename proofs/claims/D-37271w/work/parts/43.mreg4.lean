/-! the model's wide numbers: plus -/
set_option maxRecDepth 100000
def pad (S : mS) (r : Int) : Int → Int := fun i => if i < S 2 r then S 1 (440 * r + i) else 0
theorem pad_lv {S : mS} {r x : Int} (h : ru S r x) : ∀ {k : Nat}, S 2 r ≤ k → lv (pad S r) 0 k = x := by
  intro k
  induction k with
  | zero =>
    intro hk
    rw [← h.2.2.2, show (S 2 r).toNat = 0 by omega]
    rfl
  | succ k ih =>
    intro hk
    by_cases hz : S 2 r ≤ k
    · show lv (pad S r) 0 k + pad S r (0 + k) * 65536 ^ k = x
      have : pad S r (0 + k) = 0 := by unfold pad; rw [if_neg (by omega)]
      rw [ih hz, this]
      omega
    · rw [← h.2.2.2, show (S 2 r).toNat = k + 1 by omega]
      refine lv_congr (fun j hj => ?_)
      unfold pad
      rw [if_pos (by omega), Int.zero_add]
theorem pad_in {S : mS} {r i : Int} (h : i < S 2 r) : pad S r i = S 1 (440 * r + i) := if_pos h
theorem pad_out {S : mS} {r i : Int} (h : S 2 r ≤ i) : pad S r i = 0 := if_neg (by omega)
theorem pad_bd {S : mS} {r x i : Int} (h : ru S r x) (h0 : 0 ≤ i) : 0 ≤ pad S r i ∧ pad S r i < 65536 := by
  unfold pad
  split
  · exact h.2.2.1 i h0 (by omega)
  · omega
def plI (S : mS) (r s m x y : Int) (n : Nat) (l1 l2 l3 l4 l5 : Int) (T : mS) : Prop :=
  l1 = r ∧ l2 = s ∧ 0 ≤ l5 ∧ (l3 = 0 ∨ l3 = 1) ∧ (l5 ≤ m → l4 = m) ∧ (m < l5 → l4 = l5 ∧ l5 = m + 1 ∧ l3 = 0 ∧ 65536 ^ m.toNat ≤ x + y) ∧ T 2 = S 2 ∧ rfr S T (· = r) ∧
  (∀ j, l5 ≤ j → j < 440 → T 1 (440 * r + j) = S 1 (440 * r + j)) ∧ lim (T 1) (440 * r) l5 ∧
  lv (T 1) (440 * r) l5.toNat + l3 * 65536 ^ l5.toNat = lv (pad S r) 0 l5.toNat + lv (pad S s) 0 l5.toNat ∧ n = (m + 2 - l5).toNat
theorem plI.step {S : mS} {r s m x y : Int} {n : Nat} {l1 l2 l3 l4 l5 : Int} {T : mS} (hx : ru S r x) (hy : ru S s y) (hr : 0 ≤ r) (hm : S 2 r ≤ m ∧ S 2 s ≤ m ∧ m < 440) (h : plI S r s m x y n l1 l2 l3 l4 l5 T) (hc : l5 < l4 ∨ 0 < l3) {v l4' : Int} (hv : v = l3 + pad S r l5 + pad S s l5) (h4 : l4' = if l5 + 1 ≤ l4 then l4 else l5 + 1) :
    ∃ n1, n1 < n ∧ plI S r s m x y n1 l1 l2 (v / 65536) l4' (l5 + 1) (mup T 1 (440 * l1 + l5) (v % 65536)) := by
  obtain ⟨rfl, rfl, a1, a2, a3, a4, a5, a6, a7, a8, a9, rfl⟩ := h
  have p1 := pad_bd hx a1
  have p2 := pad_bd hy a1
  have hle : l5 ≤ m := by
    rcases Int.lt_or_le m l5 with q | q
    · have := a4 q; omega
    · exact q
  have hl4 := a3 hle
  obtain ⟨k, hk⟩ : ∃ k : Nat, l5 = k := ⟨l5.toNat, by omega⟩
  subst hk
  have e1 : ((k : Int) + 1).toNat = k + 1 := by omega
  have e0 : (k : Int).toNat = k := by omega
  rw [e0] at a9
  have hq : 0 ≤ v / 65536 ∧ v / 65536 ≤ 1 := by omega
  have hval : lv ((mup T 1 (440 * l1 + k) (v % 65536)) 1) (440 * l1) (k + 1) + v / 65536 * 65536 ^ (k + 1) = lv (pad S l1) 0 (k + 1) + lv (pad S l2) 0 (k + 1) := by
    rw [mup_fn]
    show lv _ _ k + (if 440 * l1 + (k : Int) = 440 * l1 + k then v % 65536 else T 1 (440 * l1 + k)) * 65536 ^ k + _ = (lv (pad S l1) 0 k + pad S l1 (0 + k) * 65536 ^ k) + (lv (pad S l2) 0 k + pad S l2 (0 + k) * 65536 ^ k)
    rw [lv_upd, if_neg (by omega), if_pos rfl, Int.pow_succ, Int.zero_add]
    have hm2 : v % 65536 + 65536 * (v / 65536) = v := Int.emod_add_mul_ediv v 65536
    generalize v % 65536 = mm at hm2 ⊢
    generalize v / 65536 = q at hm2 ⊢
    generalize (65536 : Int) ^ k = P at a9 ⊢
    grind
  refine ⟨(m + 2 - (k + 1)).toNat, by omega, rfl, rfl, by omega, by omega, fun q => ?_, fun q => ?_, ?_, ?_, fun j b1 b2 => ?_, fun j b1 b2 => ?_, ?_, rfl⟩
  · rw [h4, if_pos (by omega)]; exact hl4
  · have hkm : (k : Int) = m := by omega
    refine ⟨by rw [h4, if_neg (by omega)], by omega, ?_, ?_⟩
    · rw [pad_out (by omega), pad_out (by omega)] at hv
      omega
    · rw [show m.toNat = k by omega, ← pad_lv hx (k := k) (by omega), ← pad_lv hy (k := k) (by omega), ← a9]
      have h1 := (lv_bd (f := T 1) (b := 440 * l1) (n := k) a8).1
      have h2 : l3 = 1 := by omega
      rw [h2]
      omega
  · rw [mupf 2 (by decide)]; exact a5
  · exact a6.trans ⟨fun k a b => mupf k a, fun j hj => ⟨mup_ne (by decide), fun i a b => mup_nj (by omega)⟩⟩
  · rw [mup_nj (by omega)]; exact a7 j (by omega) b2
  · rw [mup_at]
    split
    · omega
    · exact a8 j b1 (by omega)
  · rw [e1]; exact hval
theorem s_plus {g : mG} {S : mS} {r s x y : Int} {Qp : Option mV → mS → Prop} (hr : 0 ≤ r ∧ r < 16) (hs : 0 ≤ s ∧ s < 16) (hne : r ≠ s) (h : rg S r x) (h' : rg S s y) (hsz : S 2 r < 440 ∧ S 2 s < 440) (k : ∀ S', rg S' r (x + y) → rfr S S' (· = r) → Qp none S') : CX_plus g [mt, mi r, mi s] S Qp := by
  obtain ⟨m, hm⟩ : ∃ m : Int, m = if S 2 r ≤ S 2 s then S 2 s else S 2 r := ⟨_, rfl⟩
  have hm' : S 2 r ≤ m ∧ S 2 s ≤ m ∧ m < 440 ∧ (m = S 2 r ∨ m = S 2 s) ∧ 0 ≤ m := by
    have := h.1.1
    have := h'.1.1
    split at hm <;> omega
  obtain ⟨m1, m2, m3, m4, m5⟩ := hm'
  have x0 := rg.lt h.1
  have y0 := rg.lt h'.1
  refine of_plus (plI S r s m x y) ?_ ?_
  · intro _ _ _
    have start : plI S r s m x y (m + 2 - 0).toNat r s 0 m 0 S := ⟨rfl, rfl, Int.le_refl _, Or.inl rfl, fun _ => rfl, fun q => by omega, rfl, rfr.refl, fun _ _ _ => rfl, fun j a b => by omega, rfl, rfl⟩
    refine ⟨by omega, by omega, by omega, by omega, fun c => ?_, fun c => ?_⟩
    · rw [if_pos c] at hm
      rw [← hm]
      exact ⟨_, start⟩
    · rw [if_neg c] at hm
      rw [← hm]
      exact ⟨_, start⟩
  · rintro n l1 l2 l3 l4 l5 T hS _ _ _ _ _ hI
    have hI2 := hI
    obtain ⟨rfl, rfl, a1, a2, a3, a4, a5, a6, a7, a8, a9, -⟩ := hI
    have sz1 : T 2 l1 = S 2 l1 := by rw [a5]
    have sz2 : T 2 l2 = S 2 l2 := by rw [a5]
    have hle : l5 ≤ m + 1 := by
      rcases Int.lt_or_le m l5 with q | q
      · have := a4 q; omega
      · omega
    have rd1 : l5 < S 2 l1 → T 1 (440 * l1 + l5) = pad S l1 l5 ∧ 0 ≤ pad S l1 l5 ∧ pad S l1 l5 < 65536 := fun q => ⟨by rw [pad_in q]; exact a7 l5 (by omega) (by omega), pad_bd h.1 a1⟩
    have rd2 : l5 < S 2 l2 → T 1 (440 * l2 + l5) = pad S l2 l5 ∧ 0 ≤ pad S l2 l5 ∧ pad S l2 l5 < 65536 := fun q => ⟨by rw [pad_in q]; exact (a6.2 l2 (fun z => hne z.symm)).2 _ (by omega) (by omega), pad_bd h'.1 a1⟩
    have stp := fun (hc : l5 < l4 ∨ 0 < l3) (v l4' : Int) => plI.step (v := v) (l4' := l4') h.1 h'.1 hr.1 ⟨m1, m2, m3⟩ hI2 hc
    have body : (hc : l5 < l4 ∨ 0 < l3) → l5 ≤ m := fun hc => by
      rcases Int.lt_or_le m l5 with q | q
      · have := a4 q; omega
      · exact q
    have fin : ¬ l5 < l4 → ¬ 0 < l3 → Qp none (mup T 2 l1 l4) := by
      intro c1 c2
      have hl : l4 = l5 := by
        rcases Int.lt_or_le m l5 with q | q
        · exact (a4 q).1
        · have := a3 q; omega
      have hl3 : l3 = 0 := by omega
      have hml : m ≤ l5 := by
        rcases Int.lt_or_le m l5 with q | q
        · omega
        · have := a3 q; omega
      have hv : lv (T 1) (440 * l1) l5.toNat = x + y := by
        rw [hl3, pad_lv h.1 (by omega), pad_lv h'.1 (by omega)] at a9
        omega
      refine k _ (rg_of ⟨?_, ?_, ?_, ?_⟩ ?_) ?_
      · rw [mup_eq]; omega
      · rw [mup_eq]; omega
      · rw [mup_eq, mupf 1 (by decide), hl]; exact a8
      · rw [mup_eq, mupf 1 (by decide), hl]; exact hv
      · rw [mup_eq, hl]
        right
        intro q hq
        rcases Int.lt_or_le m l5 with z | z
        · have := a4 z
          rw [show q = m.toNat by omega]
          exact this.2.2.2
        · rcases m4 with w | w
          · have := h.top (m := q) (by omega)
            omega
          · have := h'.top (m := q) (by omega)
            omega
      · exact a6.trans ⟨fun k a b => mupf k b, fun j hj => ⟨mup_nj hj, fun i _ _ => mup_ne (by decide)⟩⟩
    have main : (hc : l5 < l4 ∨ 0 < l3) → ∀ v, v = l3 + pad S l1 l5 + pad S l2 l5 → (l5 + 1 ≤ l4 → ∃ n1, n1 < n ∧ plI S l1 l2 m x y n1 l1 l2 (v / 65536) l4 (l5 + 1) (mup T 1 (440 * l1 + l5) (v % 65536))) ∧ (¬ l5 + 1 ≤ l4 → ∃ n1, n1 < n ∧ plI S l1 l2 m x y n1 l1 l2 (v / 65536) (l5 + 1) (l5 + 1) (mup T 1 (440 * l1 + l5) (v % 65536))) := fun hc v hv => ⟨fun c => stp hc v l4 hv (by rw [if_pos c]), fun c => stp hc v _ hv (by rw [if_neg c])⟩
    have o1 : l5 < S 2 l1 → T 1 (440 * l1 + l5) = pad S l1 l5 := fun q => (rd1 q).1
    have o2 : l5 < S 2 l2 → T 1 (440 * l2 + l5) = pad S l2 l5 := fun q => (rd2 q).1
    have p1 := pad_bd h.1 a1
    have p2 := pad_bd h'.1 a1
    have q1 : S 2 l1 ≤ l5 → pad S l1 l5 = 0 := pad_out
    have q2 : S 2 l2 ≤ l5 → pad S l2 l5 = 0 := pad_out
    have p3 := fun hc => body hc
    rw [sz1, sz2]
    refine ⟨fun c => ?_, fun c => ⟨fun c2 => ?_, fun c2 => ?_⟩⟩
    · have b1 := body (Or.inl c)
      repeat' (first | apply And.intro | intro _ | omega)
      all_goals first | exact (main (Or.inl c) _ (by omega)).1 (by omega) | exact (main (Or.inl c) _ (by omega)).2 (by omega)
    · exact ⟨by omega, by omega, fin c (by omega)⟩
    · have c3 : 0 < l3 := by omega
      have b1 := body (Or.inr c3)
      repeat' (first | apply And.intro | intro _ | omega)
      all_goals first | exact (main (Or.inr c3) _ (by omega)).1 (by omega) | exact (main (Or.inr c3) _ (by omega)).2 (by omega)

/-! the model's values: a sign, 13 limbs of the numerator, 13 of the denominator: rationals -/
set_option maxRecDepth 100000
def vaz (S : mS) (b : Int) (x : Nat) : Prop := lim (S 3) b 13 ∧ lv (S 3) b 13 = x
/-- place v holds the rational q -/
def va (S : mS) (v : Int) (q : Rat) : Prop := S 3 (28 * v) = q.num.sign ∧ vaz S (28 * v + 1) q.num.natAbs ∧ vaz S (28 * v + 14) q.den
/-- nothing but registers and the values u is changed -/
def vfr (S S' : mS) (u : Int → Prop) : Prop := (∀ k, k ≠ 1 → k ≠ 2 → k ≠ 3 → S' k = S k) ∧ ∀ v, ¬ u v → ∀ i, 28 * v ≤ i → i < 28 * v + 28 → S' 3 i = S 3 i
theorem vfr.refl {S : mS} {u : Int → Prop} : vfr S S u := ⟨fun _ _ _ _ => rfl, fun _ _ _ _ _ => rfl⟩
theorem vfr.trans {S S' T : mS} {u : Int → Prop} (h : vfr S S' u) (h' : vfr S' T u) : vfr S T u :=
  ⟨fun k a b c => (h'.1 k a b c).trans (h.1 k a b c), fun v hv i a b => (h'.2 v hv i a b).trans (h.2 v hv i a b)⟩
theorem vfr.mono {S S' : mS} {u u' : Int → Prop} (h : vfr S S' u) (hu : ∀ v, u v → u' v) : vfr S S' u' := ⟨h.1, fun v hv => h.2 v (fun q => hv (hu v q))⟩
theorem rfr.v {S S' : mS} {t u : Int → Prop} (h : rfr S S' t) : vfr S S' u := ⟨fun k a b _ => h.1 k a b, fun v _ i _ _ => by rw [h.1 3 (by decide) (by decide)]⟩
theorem vaz.keep {S S' : mS} {b : Int} {x : Nat} (h : vaz S b x) (he : ∀ i, b ≤ i → i < b + 13 → S' 3 i = S 3 i) : vaz S' b x := by
  refine ⟨fun k a c => ?_, ?_⟩
  · rw [he _ (by omega) (by omega)]; exact h.1 k a c
  · rw [← h.2]
    exact lv_congr (fun k hk => he _ (by omega) (by omega))
theorem va.keep {S S' : mS} {u : Int → Prop} {v : Int} {q : Rat} (h : va S v q) (hf : vfr S S' u) (hu : ¬ u v) : va S' v q := by
  have e := hf.2 v hu
  exact ⟨by rw [e _ (by omega) (by omega)]; exact h.1, h.2.1.keep (fun i a b => e i (by omega) (by omega)), h.2.2.keep (fun i a b => e i (by omega) (by omega))⟩
theorem va.copy {S S' : mS} {v w : Int} {q : Rat} (h : va S w q) (he : ∀ i, 0 ≤ i → i < 28 → S' 3 (28 * v + i) = S 3 (28 * w + i)) : va S' v q := by
  obtain ⟨h1, ⟨h2, h3⟩, h4, h5⟩ := h
  have e0 := he 0 (by omega) (by omega)
  rw [Int.add_zero, Int.add_zero] at e0
  refine ⟨by rw [e0]; exact h1, ⟨fun k a b => ?_, ?_⟩, ⟨fun k a b => ?_, ?_⟩⟩
  · rw [show 28 * v + 1 + k = 28 * v + (1 + k) by omega, he _ (by omega) (by omega), show 28 * w + (1 + k) = 28 * w + 1 + k by omega]
    exact h2 k a b
  · rw [← h3]
    refine lv_congr (fun k hk => ?_)
    rw [show 28 * v + 1 + (k : Int) = 28 * v + (1 + k) by omega, he _ (by omega) (by omega), show 28 * w + (1 + (k : Int)) = 28 * w + 1 + k by omega]
  · rw [show 28 * v + 14 + k = 28 * v + (14 + k) by omega, he _ (by omega) (by omega), show 28 * w + (14 + k) = 28 * w + 14 + k by omega]
    exact h4 k a b
  · rw [← h5]
    refine lv_congr (fun k hk => ?_)
    rw [show 28 * v + 14 + (k : Int) = 28 * v + (14 + k) by omega, he _ (by omega) (by omega), show 28 * w + (14 + (k : Int)) = 28 * w + 14 + k by omega]
theorem va.inj {S : mS} {v : Int} {q q' : Rat} (h : va S v q) (h' : va S v q') : q = q' := by
  obtain ⟨h1, ⟨-, h3⟩, -, h5⟩ := h
  obtain ⟨g1, ⟨-, g3⟩, -, g5⟩ := h'
  have hn : q.num.natAbs = q'.num.natAbs := by omega
  have hs : q.num.sign = q'.num.sign := h1.symm.trans g1
  have hd : q.den = q'.den := by omega
  have e : q.num = q'.num := by rw [← Int.sign_mul_natAbs q.num, ← Int.sign_mul_natAbs q'.num, hs, hn]
  rw [← Rat.mkRat_self q, ← Rat.mkRat_self q', e, hd]
def rv (v : Int) : Prop := 0 ≤ v ∧ v < 3720
theorem s_load {g : mG} {S : mS} {r v f : Int} {x : Nat} {Qp : Option mV → mS → Prop} (hr : 0 ≤ r ∧ r < 16) (hv : rv v) (hf : f = 1 ∨ f = 14) (h : vaz S (28 * v + f) x) (k : ∀ S', rg S' r x → S' 2 r ≤ 13 → rfr S S' (· = r) → Qp none S') : CX_load g [mt, mi r, mi v, mi f] S Qp := by
  obtain ⟨v1, v2⟩ := hv
  obtain ⟨g1, g2⟩ := id h
  refine of_load (fun n l1 l2 l3 l4 T => l1 = r ∧ l2 = v ∧ l3 = f ∧ 0 ≤ l4 ∧ l4 ≤ 13 ∧ T 2 = S 2 ∧ rfr S T (· = r) ∧ (∀ j, 0 ≤ j → j < l4 → T 1 (440 * r + j) = S 3 (28 * v + f + j)) ∧ n = (13 - l4).toNat) ?_ ?_
  · intro _ _ _ _
    exact ⟨_, rfl, rfl, rfl, by omega, by omega, rfl, rfr.refl, fun j a b => by omega, rfl⟩
  · rintro n l1 l2 l3 l4 T hS _ _ _ _ ⟨rfl, rfl, rfl, b1, b2, b3, b4, b5, rfl⟩
    refine ⟨fun c => ?_, fun c => ?_⟩
    · have e : l4 = 13 := by omega
      subst e
      refine ⟨by omega, by omega, s_trim (x := x) hr ⟨?_, ?_, ?_, ?_⟩ (fun S' c1 c2 _ => k S' c1 ?_ ?_)⟩
      · rw [mup_eq]; decide
      · rw [mup_eq]; decide
      · rw [mup_eq, mupf 1 (by decide)]
        intro j c1 c2
        rw [b5 j c1 c2]
        exact g1 j c1 c2
      · rw [mup_eq, mupf 1 (by decide), ← g2]
        exact lv_congr (fun j hj => b5 j (by omega) (by have : j < 13 := hj; omega))
      · have := lv_bd (f := S 3) (b := 28 * l2 + l3) (n := 13) g1
        rw [g2] at this
        exact c1.size_le this.2
      · exact (b4.trans ⟨fun k a b => mupf k b, fun j hj => ⟨mup_nj hj, fun i _ _ => mup_ne (by decide)⟩⟩).trans c2
    · have e := b4.1 3 (by decide) (by decide)
      refine ⟨by omega, by omega, by omega, by omega, by omega, by omega, by omega, by omega, by omega, by omega, _, ?_, rfl, rfl, rfl, by omega, by omega, ?_, ?_, fun j c1 c2 => ?_, rfl⟩
      · omega
      · rw [mupf 2 (by decide)]; exact b3
      · exact b4.trans ⟨fun k a b => mupf k a, fun j hj => ⟨mup_ne (by decide), fun i a b => mup_nj (by omega)⟩⟩
      · rw [mup_at]
        split
        · rw [e]
          congr 1
          omega
        · exact b5 j c1 (by omega)
theorem s_loadN {g : mG} {S : mS} {r v : Int} {q : Rat} {Qp : Option mV → mS → Prop} (hr : 0 ≤ r ∧ r < 16) (hv : rv v) (h : va S v q) (k : ∀ S', rg S' r q.num.natAbs → S' 2 r ≤ 13 → rfr S S' (· = r) → Qp none S') : CX_loadNumerator g [mt, mi r, mi v] S Qp := by
  refine of_loadNumerator ?_
  intro _ _ _
  exact s_load hr hv (Or.inl rfl) h.2.1 (fun S' a b c _ => k S' a b c)
theorem s_loadD {g : mG} {S : mS} {r v : Int} {q : Rat} {Qp : Option mV → mS → Prop} (hr : 0 ≤ r ∧ r < 16) (hv : rv v) (h : va S v q) (k : ∀ S', rg S' r q.den → S' 2 r ≤ 13 → rfr S S' (· = r) → Qp none S') : CX_loadDenominator g [mt, mi r, mi v] S Qp := by
  refine of_loadDenominator ?_
  intro _ _ _
  exact s_load hr hv (Or.inr rfl) h.2.2 (fun S' a b c _ => k S' a b c)
/-- only the 13 places from b on of the values are changed -/
def hfr (S S' : mS) (b : Int) : Prop := (∀ k, k ≠ 3 → S' k = S k) ∧ ∀ i, (i < b ∨ b + 13 ≤ i) → S' 3 i = S 3 i
theorem s_hold {g : mG} {S : mS} {r v f : Int} {x : Nat} {Qp : Option mV → mS → Prop} (hr : 0 ≤ r ∧ r < 16) (hv : rv v) (hf : f = 1 ∨ f = 14) (h : rg S r x) (hx : (x : Int) < 65536 ^ 13) (k : ∀ S', vaz S' (28 * v + f) x → hfr S S' (28 * v + f) → Qp none S') : CX_hold g [mt, mi v, mi r, mi f] S Qp := by
  obtain ⟨v1, v2⟩ := hv
  have hsz := h.size_le (n := 13) hx
  obtain ⟨g1, g2, g3, g4⟩ := id h.1
  refine of_hold (fun n l1 l2 l3 l4 T => l1 = v ∧ l2 = r ∧ l3 = f ∧ 0 ≤ l4 ∧ l4 ≤ 13 ∧ (∀ k, k ≠ 3 → T k = S k) ∧ (∀ i, (i < 28 * v + f ∨ 28 * v + f + 13 ≤ i) → T 3 i = S 3 i) ∧ (∀ j, 0 ≤ j → j < l4 → T 3 (28 * v + f + j) = pad S r j) ∧ n = (13 - l4).toNat) ?_ ?_
  · intro _ _ _ _
    exact ⟨_, rfl, rfl, rfl, by omega, by omega, fun _ _ => rfl, fun _ _ => rfl, fun j a b => by omega, rfl⟩
  · rintro n l1 l2 l3 l4 T hS _ _ _ _ ⟨rfl, rfl, rfl, b1, b2, b3, b4, b5, rfl⟩
    have e2 := b3 2 (by decide)
    have e1 := b3 1 (by decide)
    rw [e2, e1]
    refine ⟨fun c => ?_, fun c => ?_⟩
    · have e : l4 = 13 := by omega
      subst e
      refine k T ⟨fun j c1 c2 => ?_, ?_⟩ ⟨b3, b4⟩
      · rw [b5 j c1 c2]; exact pad_bd h.1 c1
      · rw [← pad_lv h.1 (k := 13) hsz]
        refine lv_congr (fun j hj => ?_)
        rw [b5 j (by omega) (by omega), Int.zero_add]
    · have stp : ∀ w, w = pad S l2 l4 → ∃ n1, n1 < (13 - l4).toNat ∧ l1 = l1 ∧ l2 = l2 ∧ l3 = l3 ∧ 0 ≤ l4 + 1 ∧ l4 + 1 ≤ 13 ∧ (∀ k, k ≠ 3 → mup T 3 (28 * l1 + l3 + l4) w k = S k) ∧ (∀ i, (i < 28 * l1 + l3 ∨ 28 * l1 + l3 + 13 ≤ i) → mup T 3 (28 * l1 + l3 + l4) w 3 i = S 3 i) ∧ (∀ j, 0 ≤ j → j < l4 + 1 → mup T 3 (28 * l1 + l3 + l4) w 3 (28 * l1 + l3 + j) = pad S l2 j) ∧ n1 = (13 - (l4 + 1)).toNat := by
        rintro w rfl
        refine ⟨_, ?_, rfl, rfl, rfl, by omega, by omega, fun k a => ?_, fun i a => ?_, fun j a b => ?_, rfl⟩
        · omega
        · rw [mupf k a]; exact b3 k a
        · rw [mup_nj (by omega)]; exact b4 i a
        · rw [mup_at]
          split
          · rw [show j = l4 by omega]
          · exact b5 j a (by omega)
      refine ⟨by omega, by omega, by omega, by omega, by omega, fun c2 => ⟨by omega, by omega, by omega, stp 0 (pad_out c2).symm⟩, fun c2 => ⟨by omega, by omega, by omega, by omega, by omega, by omega, by omega, stp _ (pad_in (by omega)).symm⟩⟩
theorem s_copyValue {g : mG} {S : mS} {t f : Int} {Qp : Option mV → mS → Prop} (ht : rv t) (hf : rv f) (hne : t ≠ f) (k : ∀ S', (∀ i, 0 ≤ i → i < 28 → S' 3 (28 * t + i) = S 3 (28 * f + i)) → (∀ q, va S f q → va S' t q) → (∀ k, k ≠ 3 → S' k = S k) → vfr S S' (· = t) → Qp none S') : CX_copyValue g [mt, mi t, mi f] S Qp := by
  obtain ⟨t1, t2⟩ := ht
  obtain ⟨f1, f2⟩ := hf
  refine of_copyValue (fun n l1 l2 l3 T => l1 = t ∧ l2 = f ∧ 0 ≤ l3 ∧ l3 ≤ 28 ∧ (∀ k, k ≠ 3 → T k = S k) ∧ (∀ i, (i < 28 * t ∨ 28 * t + 28 ≤ i) → T 3 i = S 3 i) ∧ (∀ j, 0 ≤ j → j < l3 → T 3 (28 * t + j) = S 3 (28 * f + j)) ∧ n = (28 - l3).toNat) ?_ ?_
  · intro _ _ _
    exact ⟨_, rfl, rfl, by omega, by omega, fun _ _ => rfl, fun _ _ => rfl, fun j a b => by omega, rfl⟩
  · rintro n l1 l2 l3 T hS _ _ _ ⟨rfl, rfl, b1, b2, b3, b4, b5, rfl⟩
    refine ⟨fun c => ?_, fun c => ?_⟩
    · have e : l3 = 28 := by omega
      subst e
      exact k T b5 (fun q hq => hq.copy b5) b3 ⟨fun k _ _ a => b3 k a, fun v hv i a b => b4 i (by omega)⟩
    · have e := b4 (28 * l2 + l3) (by omega)
      refine ⟨by omega, by omega, by omega, by omega, by omega, by omega, by omega, by omega, by omega, _, ?_, rfl, rfl, by omega, by omega, fun k a => ?_, fun i a => ?_, fun j a b => ?_, rfl⟩
      · omega
      · rw [mupf k a]; exact b3 k a
      · rw [mup_nj (by omega)]; exact b4 i a
      · rw [mup_at]
        split
        · rw [e, show j = l3 by omega]
        · exact b5 j a (by omega)
theorem s_sign {g : mG} {S : mS} {v : Int} {q : Rat} {Qp : Option mV → mS → Prop} (hv : rv v) (h : va S v q) (k : Qp (some (mi q.num.sign)) S) : CX_sign_2 g [mt, mi v] S Qp := by
  obtain ⟨v1, v2⟩ := hv
  refine of_sign_2 ?_
  intro _ _
  rw [h.1]
  exact ⟨by omega, by omega, by omega, k⟩

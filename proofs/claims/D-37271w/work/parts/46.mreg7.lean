/-! the model's wide numbers: times, divide, common -/
set_option maxRecDepth 100000
/-- outer loop: the limbs below l5 of r, times y, stand in t -/
def tmO (S : mS) (t r s x y : Int) (N : Int) (n : Nat) (l1 l2 l3 l4 l5 : Int) (T : mS) : Prop :=
  l1 = t ∧ l2 = r ∧ l3 = s ∧ l4 = N ∧ 0 ≤ l5 ∧ l5 ≤ S 2 r ∧ T 2 = S 2 ∧ rfr S T (· = t) ∧ lim (T 1) (440 * t) N ∧
  lv (T 1) (440 * t) (l5 + S 2 s).toNat = lv (S 1) (440 * r) l5.toNat * y ∧ (∀ j, l5 + S 2 s ≤ j → j < N → T 1 (440 * t + j) = 0) ∧ n = ((S 2 r - l5) * 1000).toNat
def tmI (S : mS) (t r s x y : Int) (N : Int) (n : Nat) (l1 l2 l3 l4 l5 l6 l8 l10 : Int) (T : mS) : Prop :=
  l1 = t ∧ l2 = r ∧ l3 = s ∧ l4 = N ∧ 0 ≤ l5 ∧ l5 < S 2 r ∧ T 2 = S 2 ∧ rfr S T (· = t) ∧ lim (T 1) (440 * t) N ∧ l8 = S 1 (440 * r + l5) ∧ 0 ≤ l6 ∧ l6 < 65536 ∧ 0 ≤ l10 ∧ l10 ≤ S 2 s ∧
  (∃ U : Int → Int, lim U (440 * t) N ∧ (∀ j, l5 + l10 ≤ j → j < N → T 1 (440 * t + j) = U (440 * t + j)) ∧ lv U (440 * t) (l5 + S 2 s).toNat = lv (S 1) (440 * r) l5.toNat * y ∧ (∀ j, l5 + S 2 s ≤ j → j < N → U (440 * t + j) = 0) ∧
    lv (T 1) (440 * t) (l5 + l10).toNat + l6 * 65536 ^ (l5 + l10).toNat = lv U (440 * t) (l5 + l10).toNat + l8 * lv (S 1) (440 * s) l10.toNat * 65536 ^ l5.toNat) ∧ n = ((S 2 r - l5) * 1000 - 1 - l10).toNat
theorem prod_bd {a b : Int} (ha : 0 ≤ a ∧ a < 65536) (hb : 0 ≤ b ∧ b < 65536) : 0 ≤ a * b ∧ a * b ≤ 4294836225 := by
  have h1 := Int.mul_nonneg ha.1 hb.1
  have h2 : a * b ≤ 65535 * b := Int.mul_le_mul_of_nonneg_right (by omega) hb.1
  omega
theorem s_times {g : mG} {S : mS} {t r s x y : Int} {Qp : Option mV → mS → Prop} (ht : 0 ≤ t ∧ t < 16) (hr : 0 ≤ r ∧ r < 16) (hs : 0 ≤ s ∧ s < 16) (h1 : t ≠ r) (h2 : t ≠ s) (h : ru S r x) (h' : ru S s y) (hsz : S 2 r + S 2 s ≤ 440) (k : ∀ S', rg S' t (x * y) → rfr S S' (· = t) → Qp none S') : CX_times g [mt, mi t, mi r, mi s] S Qp := by
  obtain ⟨g1, g2, g3, g4⟩ := id h
  obtain ⟨d1, d2, d3, d4⟩ := id h'
  refine of_times (fun n l1 l2 l3 l4 l5 T => l1 = t ∧ l2 = r ∧ l3 = s ∧ l4 = S 2 r + S 2 s ∧ 0 ≤ l5 ∧ l5 ≤ l4 ∧ T 2 = S 2 ∧ rfr S T (· = t) ∧ (∀ j, 0 ≤ j → j < l5 → T 1 (440 * t + j) = 0) ∧ n = (l4 - l5 + S 2 r * 1000 + 1).toNat) (tmO S t r s x y (S 2 r + S 2 s)) (tmI S t r s x y (S 2 r + S 2 s)) ?_ ?_ ?_ ?_
  · intro _ _ _ _
    refine ⟨by omega, by omega, by omega, by omega, by omega, _, rfl, rfl, rfl, rfl, by omega, by omega, rfl, rfr.refl, fun j a b => by omega, rfl⟩
  · rintro n l1 l2 l3 l4 l5 T hS _ _ _ _ _ ⟨rfl, rfl, rfl, rfl, b1, b2, b3, b4, b5, rfl⟩
    refine ⟨fun c => ?_, fun c => ?_⟩
    · refine ⟨((S 2 l2 - 0) * 1000).toNat, by omega, rfl, rfl, rfl, rfl, by omega, by omega, b3, b4, fun j c1 c2 => ?_, ?_, fun j c1 c2 => b5 j (by omega) (by omega), rfl⟩
      · rw [b5 j c1 (by omega)]; omega
      · have e : lv (T 1) (440 * l1) (0 + S 2 l3).toNat = lv (fun _ => 0) 0 (0 + S 2 l3).toNat := lv_congr (fun j hj => b5 j (by omega) (by omega))
        have z : ∀ q : Nat, lv (fun _ => 0) 0 q = 0 := fun q => by
          induction q with
          | zero => rfl
          | succ q ih => show lv (fun _ => 0) 0 q + 0 * _ = 0; rw [ih]; omega
        rw [e, z]
        show 0 = 0 * y
        omega
    · refine ⟨by omega, by omega, by omega, by omega, by omega, _, ?_, rfl, rfl, rfl, rfl, by omega, by omega, ?_, ?_, fun j c1 c2 => ?_, rfl⟩
      · omega
      · rw [mupf 2 (by decide)]; exact b3
      · exact b4.trans ⟨fun k a b => mupf k a, fun j hj => ⟨mup_ne (by decide), fun i a b => mup_nj (by omega)⟩⟩
      · rw [mup_at]
        split
        · rfl
        · exact b5 j c1 (by omega)
  · rintro n l1 l2 l3 l4 l5 T hS _ _ _ _ _ ⟨rfl, rfl, rfl, rfl, b1, b2, b3, b4, b5, b6, b7, rfl⟩
    have sz1 : T 2 l2 = S 2 l2 := by rw [b3]
    have sz2 : T 2 l3 = S 2 l3 := by rw [b3]
    rw [sz1]
    refine ⟨by omega, by omega, fun c => ⟨by omega, by omega, ?_⟩, fun c => ?_⟩
    · have hl : l5 = S 2 l2 := by omega
      subst hl
      refine s_trim (x := x * y) ht ⟨?_, ?_, ?_, ?_⟩ (fun S' q1 q2 _ => k S' q1 ?_)
      · rw [mup_eq]; omega
      · rw [mup_eq]; omega
      · rw [mup_eq, mupf 1 (by decide)]; exact b5
      · rw [mup_eq, mupf 1 (by decide), b6, g4]
      · exact (b4.trans ⟨fun k a b => mupf k b, fun j hj => ⟨mup_nj hj, fun i _ _ => mup_ne (by decide)⟩⟩).trans q2
    · have e := (b4.2 l2 (fun z => h1 z.symm)).2 (440 * l2 + l5) (by omega) (by omega)
      refine ⟨by omega, by omega, by omega, by omega, ((S 2 l2 - l5) * 1000 - 1 - 0).toNat, by omega, rfl, rfl, rfl, rfl, b1, by omega, b3, b4, b5, e, by omega, by omega, by omega, d1, ⟨T 1, b5, fun _ _ _ => rfl, b6, b7, ?_⟩, rfl⟩
      rw [Int.add_zero]
      show lv (T 1) (440 * l1) l5.toNat + 0 * _ = lv (T 1) (440 * l1) l5.toNat + _ * 0 * _
      omega
  · rintro n l1 l2 l3 l4 l5 l6 l8 l10 T hS _ _ _ _ _ _ _ _ ⟨rfl, rfl, rfl, rfl, b1, b2, b3, b4, b5, b6, b7, b8, b9, b10, ⟨U, u1, u2, u3, u4, u5⟩, rfl⟩
    have sz2 : T 2 l3 = S 2 l3 := by rw [b3]
    have lx := g3 l5 b1 b2
    rw [← b6] at lx
    rw [sz2]
    obtain ⟨i, hi⟩ : ∃ i : Nat, l5 = i := ⟨l5.toNat, by omega⟩
    subst hi
    obtain ⟨q, hq⟩ : ∃ q : Nat, l10 = q := ⟨l10.toNat, by omega⟩
    subst hq
    have e0 : ((i : Int) + q).toNat = i + q := by omega
    have e1 : (i : Int).toNat = i := by omega
    have e2 : (q : Int).toNat = q := by omega
    rw [e0, e1, e2] at u5
    have ea : (65536 : Int) ^ (i + q) = 65536 ^ i * 65536 ^ q := Int.pow_add _ _ _
    refine ⟨by omega, by omega, fun c => ?_, fun c => ?_⟩
    · have hl : (q : Int) = S 2 l3 := by omega
      have ty : (S 2 l3).toNat = q := by omega
      rw [ty] at d4
      rw [d4] at u5
      refine ⟨by omega, by omega, by omega, by omega, by omega, by omega, by omega, ((S 2 l2 - (i + 1)) * 1000).toNat, by omega, rfl, rfl, rfl, rfl, by omega, by omega, ?_, ?_, ?_, ?_, ?_, rfl⟩
      · rw [mupf 2 (by decide)]; exact b3
      · exact b4.trans ⟨fun k a b => mupf k a, fun j hj => ⟨mup_ne (by decide), fun i a b => mup_nj (by omega)⟩⟩
      · intro j c1 c2
        rw [mup_at]
        split
        · omega
        · exact b5 j c1 c2
      · rw [show ((i : Int) + S 2 l3).toNat = i + q by omega] at u3
        rw [show ((i : Int) + 1 + S 2 l3).toNat = (i + q) + 1 by omega, show ((i : Int) + 1).toNat = i + 1 by omega, mup_fn, show 440 * l1 + (i : Int) + S 2 l3 = 440 * l1 + ((i + q : Nat) : Int) by omega]
        show lv _ _ (i + q) + (if 440 * l1 + ((i + q : Nat) : Int) = 440 * l1 + ((i + q : Nat) : Int) then l6 else T 1 _) * 65536 ^ (i + q) = (lv (S 1) (440 * l2) i + S 1 (440 * l2 + i) * 65536 ^ i) * y
        rw [e1] at u3
        rw [lv_upd, if_neg (by omega), if_pos rfl, u5, u3, ← b6]
        grind
      · intro j c1 c2
        rw [mup_nj (by omega), u2 j (by omega) c2]
        exact u4 j (by omega) c2
    · have c' : (q : Int) < S 2 l3 := by omega
      have ly := d3 q (by omega) c'
      have er := (b4.2 l3 (fun z => h2 z.symm)).2 (440 * l3 + q) (by omega) (by omega)
      have et := b5 (i + q) (by omega) (by omega)
      have eu := u2 (i + q) (by omega) (by omega)
      have ix : 440 * l1 + (i : Int) + q = 440 * l1 + ((i + q : Nat) : Int) := by omega
      have ix2 : 440 * l1 + ((i : Int) + q) = 440 * l1 + ((i + q : Nat) : Int) := by omega
      rw [ix2] at et eu
      rw [ix, er]
      have pb := prod_bd lx ly
      have pc : l8 * S 1 (440 * l3 + q) = l8 * S 1 (440 * l3 + q) := rfl
      generalize hp : l8 * S 1 (440 * l3 + q) = pr at *
      refine ⟨by omega, by omega, by omega, by omega, by omega, by omega, by omega, by omega, by omega, by omega, by omega, by omega, by omega, by omega, ((S 2 l2 - i) * 1000 - 1 - (q + 1)).toNat, by omega, rfl, rfl, rfl, rfl, b1, b2, ?_, ?_, fun j c1 c2 => ?_, b6, by omega, by omega, by omega, by omega, ⟨U, u1, fun j c1 c2 => ?_, by rw [e1]; exact u3, u4, ?_⟩, rfl⟩
      · rw [mupf 2 (by decide)]; exact b3
      · exact b4.trans ⟨fun k a b => mupf k a, fun j hj => ⟨mup_ne (by decide), fun i a b => mup_nj (by omega)⟩⟩
      · rw [mup_at]
        split
        · omega
        · exact b5 j c1 c2
      · rw [mup_nj (by omega)]
        exact u2 j (by omega) c2
      · rw [show ((i : Int) + (q + 1)).toNat = (i + q) + 1 by omega, e1, show ((q : Int) + 1).toNat = q + 1 by omega, mup_fn]
        show (lv _ _ (i + q) + (if 440 * l1 + ((i + q : Nat) : Int) = 440 * l1 + ((i + q : Nat) : Int) then _ else T 1 _) * 65536 ^ (i + q)) + _ = (lv U (440 * l1) (i + q) + U (440 * l1 + ((i + q : Nat) : Int)) * 65536 ^ (i + q)) + l8 * (lv (S 1) (440 * l3) q + S 1 (440 * l3 + q) * 65536 ^ q) * 65536 ^ i
        rw [lv_upd, if_neg (by omega), if_pos rfl, Int.pow_succ, ← eu]
        have hm2 := Int.emod_add_mul_ediv (T 1 (440 * l1 + ((i + q : Nat) : Int)) + pr + l6) 65536
        rw [ea] at u5 ⊢
        generalize (T 1 (440 * l1 + ((i + q : Nat) : Int)) + pr + l6) % 65536 = mm at hm2 ⊢
        generalize (T 1 (440 * l1 + ((i + q : Nat) : Int)) + pr + l6) / 65536 = qq at hm2 ⊢
        generalize (65536 : Int) ^ i = P at u5 ⊢
        generalize (65536 : Int) ^ q = P2 at u5 ⊢
        grind

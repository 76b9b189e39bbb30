/-! the model's wide numbers: registers of limbs of 16 bits -/
set_option maxRecDepth 100000
theorem mupf {S : mS} {k : Nat} {j v : Int} (k' : Nat) (h : k' ≠ k) : mup S k j v k' = S k' := funext fun _ => mup_ne h
/-- n limbs of f from b on, the lowest first -/
def lv (f : Int → Int) (b : Int) : Nat → Int
  | 0 => 0
  | n + 1 => lv f b n + f (b + n) * 65536 ^ n
def lim (f : Int → Int) (b : Int) (n : Int) : Prop := ∀ k, 0 ≤ k → k < n → 0 ≤ f (b + k) ∧ f (b + k) < 65536
theorem lv_congr {f g : Int → Int} {b c : Int} : ∀ {n : Nat}, (∀ k : Nat, k < n → f (b + k) = g (c + k)) → lv f b n = lv g c n := by
  intro n
  induction n with
  | zero => intro _; rfl
  | succ n ih =>
    intro h
    show lv f b n + f (b + n) * _ = lv g c n + g (c + n) * _
    rw [ih (fun k hk => h k (by omega)), h n (by omega)]
theorem lv_bd {f : Int → Int} {b : Int} : ∀ {n : Nat}, lim f b n → 0 ≤ lv f b n ∧ lv f b n < 65536 ^ n := by
  intro n
  induction n with
  | zero => intro _; exact ⟨Int.le_refl _, show (0 : Int) < 65536 ^ 0 by decide⟩
  | succ n ih =>
    intro h
    have h1 := ih (fun k h0 hk => h k h0 (by omega))
    have h2 := h n (by omega) (by omega)
    have hp : (0 : Int) < 65536 ^ n := Int.pow_pos (by decide)
    show 0 ≤ lv f b n + f (b + n) * 65536 ^ n ∧ lv f b n + f (b + n) * 65536 ^ n < 65536 ^ (n + 1)
    rw [Int.pow_succ]
    have h3 : 0 ≤ f (b + n) * 65536 ^ n := Int.mul_nonneg h2.1 (by omega)
    have h4 : f (b + n) * 65536 ^ n ≤ 65535 * 65536 ^ n := Int.mul_le_mul_of_nonneg_right (by omega) (by omega)
    omega
theorem lv_top {f : Int → Int} {b : Int} {n : Nat} (h : lim f b (n + 1)) (hz : f (b + n) ≠ 0) : 65536 ^ n ≤ lv f b (n + 1) := by
  have h1 := lv_bd (f := f) (b := b) (n := n) (fun k h0 hk => h k h0 (by omega))
  have h2 := h n (by omega) (by omega)
  have hp : (0 : Int) < 65536 ^ n := Int.pow_pos (by decide)
  show 65536 ^ n ≤ lv f b n + f (b + n) * 65536 ^ n
  have h4 : 1 * 65536 ^ n ≤ f (b + n) * 65536 ^ n := Int.mul_le_mul_of_nonneg_right (by omega) (by omega)
  omega
/-- register r holds x, in n limbs -/
def ru (S : mS) (r x : Int) : Prop := 0 ≤ S 2 r ∧ S 2 r ≤ 440 ∧ lim (S 1) (440 * r) (S 2 r) ∧ lv (S 1) (440 * r) (S 2 r).toNat = x
/-- register r holds x, its highest limb not 0 -/
def rg (S : mS) (r x : Int) : Prop := ru S r x ∧ (S 2 r = 0 ∨ S 1 (440 * r + S 2 r - 1) ≠ 0)
/-- nothing but registers t is changed -/
def rfr (S S' : mS) (t : Int → Prop) : Prop := (∀ k, k ≠ 1 → k ≠ 2 → S' k = S k) ∧ ∀ j, ¬ t j → S' 2 j = S 2 j ∧ ∀ i, 440 * j ≤ i → i < 440 * j + 440 → S' 1 i = S 1 i
theorem rfr.refl {S : mS} {t : Int → Prop} : rfr S S t := ⟨fun _ _ _ => rfl, fun _ _ => ⟨rfl, fun _ _ _ => rfl⟩⟩
theorem rfr.trans {S S' S2 : mS} {t : Int → Prop} (h : rfr S S' t) (h' : rfr S' S2 t) : rfr S S2 t :=
  ⟨fun k h1 h2 => (h'.1 k h1 h2).trans (h.1 k h1 h2), fun j hj => ⟨(h'.2 j hj).1.trans (h.2 j hj).1, fun i h1 h2 => ((h'.2 j hj).2 i h1 h2).trans ((h.2 j hj).2 i h1 h2)⟩⟩
theorem rfr.mono {S S' : mS} {t t' : Int → Prop} (h : rfr S S' t) (ht : ∀ j, t j → t' j) : rfr S S' t' := ⟨h.1, fun j hj => h.2 j (fun q => hj (ht j q))⟩
theorem ru.keep {S S' : mS} {t : Int → Prop} {r x : Int} (h : ru S r x) (hf : rfr S S' t) (ht : ¬ t r) : ru S' r x := by
  obtain ⟨h1, h2, h3, h4⟩ := h
  obtain ⟨e1, e2⟩ := hf.2 r ht
  refine ⟨by omega, by omega, fun k a b => ?_, ?_⟩
  · rw [e2 _ (by omega) (by omega)]
    exact h3 k a (by omega)
  · rw [e1, ← h4]
    exact lv_congr (fun k hk => e2 _ (by omega) (by omega))
theorem rg.keep {S S' : mS} {t : Int → Prop} {r x : Int} (h : rg S r x) (hf : rfr S S' t) (ht : ¬ t r) : rg S' r x := by
  refine ⟨h.1.keep hf ht, ?_⟩
  obtain ⟨e1, e2⟩ := hf.2 r ht
  have := h.1.1
  have := h.1.2.1
  rcases h.2 with q | q
  · left; omega
  · by_cases hz : S 2 r = 0
    · left; omega
    · right
      rw [e1, e2 _ (by omega) (by omega)]
      exact q
theorem s_trim {g : mG} {S : mS} {r x : Int} {Qp : Option mV → mS → Prop} (hr : 0 ≤ r ∧ r < 16) (h : ru S r x) (k : ∀ S', rg S' r x → rfr S S' (· = r) → Qp none S') : CX_trim g [mt, mi r] S Qp := by
  refine of_trim (fun n l S1 => l = r ∧ n = (S1 2 r).toNat ∧ ru S1 r x ∧ rfr S S1 (· = r)) ?_ ?_
  · intro _ _
    exact ⟨_, rfl, rfl, h, rfr.refl⟩
  · rintro n l S1 hS _ ⟨rfl, rfl, ⟨h1, h2, h3, h4⟩, hf⟩
    refine ⟨by omega, by omega, fun c => ?_, fun c => ⟨by omega, by omega, by omega, by omega, by omega, fun c2 => ?_, fun c2 => ⟨by omega, ?_⟩⟩⟩
    · exact k S1 ⟨⟨h1, h2, h3, h4⟩, Or.inl (by omega)⟩ hf
    · exact k S1 ⟨⟨h1, h2, h3, h4⟩, Or.inr c2⟩ hf
    · obtain ⟨m, hm⟩ : ∃ m : Nat, S1 2 l = m + 1 := ⟨(S1 2 l - 1).toNat, by omega⟩
      refine ⟨m, by omega, rfl, ?_, ?_, ?_⟩
      · rw [mup_eq]; omega
      · refine ⟨by rw [mup_eq]; omega, by rw [mup_eq]; omega, ?_, ?_⟩
        · rw [mup_eq, mupf 1 (by decide)]
          exact fun k a b => h3 k a (by omega)
        · rw [mup_eq, mupf 1 (by decide), ← h4]
          have e1 : (S1 2 l).toNat = m + 1 := by omega
          have e2 : (S1 2 l - 1).toNat = m := by omega
          rw [e1, e2]
          show _ = lv (S1 1) (440 * l) m + S1 1 (440 * l + m) * _
          have e3 : 440 * l + S1 2 l - 1 = 440 * l + m := by omega
          rw [e3] at c2
          rw [Decidable.not_not.mp c2]
          omega
      · refine hf.trans ⟨fun k a b => ?_, fun j hj => ⟨?_, fun i _ _ => ?_⟩⟩
        · funext i; rw [mup_ne b]
        · rw [mup_nj hj]
        · rw [mup_ne (by decide)]

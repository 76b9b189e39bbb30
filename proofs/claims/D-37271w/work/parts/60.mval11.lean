/-! the model's values: one, two -/
set_option maxRecDepth 100000
set_option maxHeartbeats 2000000
/-- what an act on one value gives -/
def oneQ (op : Int) (q : Rat) : Rat ⊕ Int :=
  if op = 13 then factQ q else if op = 11 then .inl (-q) else .inl (if q = 0 then 1 else 0)
def fitR (q : Rat) : Rat ⊕ Int := if fitQ q then .inl q else .inr 3
/-- what an act on two values gives -/
def twoQ (op : Int) (p q : Rat) : Rat ⊕ Int :=
  if op = 0 then fitR (p + q) else if op = 1 then fitR (p - q) else if op = 2 then fitR (p * q)
  else if op = 3 then (if q = 0 then .inr 1 else fitR (p / q))
  else if op = 4 then remQ p q else if op = 5 then powQ p q
  else if op = 6 then .inl (if p < q then 1 else 0) else if op = 7 then .inl (if p = q then 1 else 0)
  else if op = 8 then .inl (if q < p then 1 else 0)
  else if op = 9 then .inl (if p = 0 ∨ q = 0 then 0 else 1) else .inl (if p = 0 ∧ q = 0 then 0 else 1)
theorem va.neg {S : mS} {v : Int} {q : Rat} (h : va S v q) (s : Int) (hs : s = -q.num.sign) : va (mup S 3 (28 * v) s) v (-q) := by
  obtain ⟨h1, h2, h3⟩ := h
  refine ⟨?_, ?_, ?_⟩
  · rw [mup_eq, hs, Rat.neg_num, Int.sign_neg]
  · rw [Rat.neg_num, Int.natAbs_neg]
    exact h2.keep (fun i a b => by rw [mup_nj (by omega)])
  · rw [Rat.neg_den]
    exact h3.keep (fun i a b => by rw [mup_nj (by omega)])
theorem s_one {g : mG} {S : mS} {op a : Int} {q : Rat} {Qp : Option mV → mS → Prop} (ha : 0 ≤ a ∧ a < 3600) (h : va S a q)
    (k : oQ Qp S a (oneQ op q)) : CX_one g [mt, mi op, mi a] S Qp := by
  have ra : rv a := ⟨ha.1, by omega⟩
  have sp := sg3.of q.num
  unfold oneQ at k
  refine of_one ?_
  intro _ _ _
  refine ⟨fun c => ?_, fun c => ?_⟩
  · rw [if_neg c] at k
    refine ⟨fun c2 => ?_, fun c2 => ?_⟩
    · rw [if_neg c2] at k
      refine s_sign ra h ?_
      intro _ _
      have st : ∀ n : Int, n = 0 ∨ n = 1 → ((n : Rat) = if q = 0 then 1 else 0) → CX_setInt g [mt, mi a, mi n] S (Qv fun S3 => mI S3 → Qp (some (mi 0)) S3) := by
        intro n hn e
        refine s_setInt ra (by omega) (fun S3 h3 f3 => ?_)
        intro _
        rw [e] at h3
        exact k S3 h3 (f3.mono (fun v z => Or.inl z))
      refine ⟨fun c3 => st 0 (Or.inl rfl) ?_, fun c3 => st 1 (Or.inr rfl) ?_⟩
      · rw [if_neg (fun z => c3 (sign_zero.mpr z))]; rfl
      · rw [if_pos (sign_zero.mp (by omega))]; rfl
    · rw [if_pos (by omega)] at k
      refine ⟨by omega, ?_⟩
      refine s_sign ra h ?_
      intro _ _
      refine ⟨by have := sp.1; omega, by omega, by omega, ?_⟩
      refine k _ (h.neg _ rfl) ⟨fun j _ _ b => mupf j b, fun v hv i c d => mup_nj (by omega)⟩
  · rw [if_pos (by omega)] at k
    refine s_factorial ha ra h ?_
    cases hh : factQ q with
    | inl r =>
      rw [hh] at k
      intro S' a1 a2
      intro _ _
      exact k S' a1 a2
    | inr r =>
      rw [hh] at k
      intro S' a2
      intro _ _
      exact k S' a2
theorem oQ_fit {Qp : Option mV → mS → Prop} {S : mS} {t : Int} {r : Rat} (h : oQ Qp S t (fitR r)) :
    (fitQ r → ∀ S', va S' t r → vfr S S' (· = t) → Qp (some (mi 0)) S') ∧ (¬ fitQ r → ∀ S', vfr S S' (fun _ => False) → Qp (some (mi 3)) S') := by
  unfold fitR at h
  refine ⟨fun c => ?_, fun c => ?_⟩
  · rw [if_pos c] at h
    exact fun S' a b => h S' a (b.mono (fun v z => Or.inl z))
  · rw [if_neg c] at h
    exact fun S' b => h S' (b.mono (fun v z => z.elim))
theorem s_two {g : mG} {S : mS} {op a b : Int} {p q : Rat} {Qp : Option mV → mS → Prop} (hop : 0 ≤ op ∧ op ≤ 10) (ha : 0 ≤ a ∧ a < 3600) (hb : 0 ≤ b ∧ b < 3600) (h : va S a p) (h' : va S b q) (hfit : fitQ q)
    (k : oQ Qp S a (twoQ op p q)) : CX_two g [mt, mi op, mi a, mi b] S Qp := by
  have ra : rv a := ⟨ha.1, by omega⟩
  have rb : rv b := ⟨hb.1, by omega⟩
  -- a truth is written
  have st : ∀ (n : Int) (r : Rat) (T : mS), vfr S T (fun _ => False) → oQ Qp S a (.inl r) → n = 0 ∨ n = 1 → (n : Rat) = r → CX_setInt g [mt, mi a, mi n] T (Qv fun S3 => mI S3 → Qp (some (mi 0)) S3) := by
    intro n r T f kk hn e
    refine s_setInt ra (by omega) (fun S3 h3 f3 => ?_)
    intro _
    rw [e] at h3
    exact kk S3 h3 ((f.mono (fun _ z => z.elim)).trans (f3.mono (fun v z => Or.inl z)))
  unfold twoQ at k
  refine of_two ?_
  intro _ _ _ _
  refine ⟨fun c => ?_, fun c => ?_, fun c => ?_, fun c => ?_, fun c => ?_, fun c => ?_, fun c => ?_, fun c => ?_, fun c => ?_, fun c => ?_, fun c => ?_, fun c => by omega⟩
  · rw [if_pos c] at k
    obtain ⟨k1, k0⟩ := oQ_fit k
    have e : p + ((1 : Int) : Rat) * q = p + q := by rw [show ((1 : Int) : Rat) = 1 from rfl, Rat.one_mul]
    refine s_addValues (w := 1) (Or.inl rfl) ra ra rb h h' (fun hf S2 h2 f2 => ?_) (fun hf S2 f2 => ?_)
    · rw [e] at hf h2
      intro _ _
      exact ⟨fun z => absurd z (by decide), fun _ => k1 hf S2 h2 f2⟩
    · rw [e] at hf
      intro _ _
      exact ⟨fun _ => k0 hf S2 f2, fun z => absurd rfl z⟩
  · rw [if_neg (by omega), if_pos c] at k
    obtain ⟨k1, k0⟩ := oQ_fit k
    have e : p + ((-1 : Int) : Rat) * q = p - q := by
      rw [show ((-1 : Int) : Rat) = -1 from rfl, Rat.sub_eq_add_neg, Rat.neg_mul, Rat.one_mul]
    refine s_addValues (w := -1) (Or.inr rfl) ra ra rb h h' (fun hf S2 h2 f2 => ?_) (fun hf S2 f2 => ?_)
    · rw [e] at hf h2
      intro _ _
      exact ⟨fun z => absurd z (by decide), fun _ => k1 hf S2 h2 f2⟩
    · rw [e] at hf
      intro _ _
      exact ⟨fun _ => k0 hf S2 f2, fun z => absurd rfl z⟩
  · rw [if_neg (by omega), if_neg (by omega), if_pos c] at k
    obtain ⟨k1, k0⟩ := oQ_fit k
    refine s_multiplyValues ra ra rb h h' (fun hf S2 h2 f2 => ?_) (fun hf S2 f2 => ?_)
    · intro _ _
      exact ⟨fun z => absurd z (by decide), fun _ => k1 hf S2 h2 f2⟩
    · intro _ _
      exact ⟨fun _ => k0 hf S2 f2, fun z => absurd rfl z⟩
  · rw [if_neg (by omega), if_neg (by omega), if_neg (by omega), if_pos c] at k
    refine s_sign rb h' ?_
    intro _ _
    refine ⟨fun c2 => ?_, fun c2 => ?_⟩
    · have q0 : q ≠ 0 := fun z => c2 (sign_zero.mpr z)
      rw [if_neg q0] at k
      obtain ⟨k1, k0⟩ := oQ_fit k
      refine s_divideValues ra ra rb h h' q0 (fun hf S2 h2 f2 => ?_) (fun hf S2 f2 => ?_)
      · intro _ _
        exact ⟨fun z => absurd z (by decide), fun _ => k1 hf S2 h2 f2⟩
      · intro _ _
        exact ⟨fun _ => k0 hf S2 f2, fun z => absurd rfl z⟩
    · rw [if_pos (sign_zero.mp (by omega))] at k
      exact k S vfr.refl
  · rw [if_neg (by omega), if_neg (by omega), if_neg (by omega), if_neg (by omega), if_pos c] at k
    refine s_remainder ra ra rb h h' hfit ?_
    cases hh : remQ p q with
    | inl r =>
      rw [hh] at k
      exact fun S' a1 a2 _ _ => k S' a1 a2
    | inr r =>
      rw [hh] at k
      exact fun S' a2 _ _ => k S' a2
  · rw [if_neg (by omega), if_neg (by omega), if_neg (by omega), if_neg (by omega), if_neg (by omega), if_pos c] at k
    refine s_power ha ha rb h h' ?_
    cases hh : powQ p q with
    | inl r =>
      rw [hh] at k
      exact fun S' a1 a2 _ _ => k S' a1 a2
    | inr r =>
      rw [hh] at k
      exact fun S' a2 _ _ => k S' a2
  · rw [if_neg (by omega), if_neg (by omega), if_neg (by omega), if_neg (by omega), if_neg (by omega), if_neg (by omega), if_pos c] at k
    refine s_compareValues ra rb h h' (fun z S1 z1 z2 f1 => ?_)
    intro _ _
    refine ⟨fun y => absurd c y, fun _ => ⟨fun y => st 1 _ S1 f1 k (Or.inr rfl) (by rw [if_pos (z1.mp y)]; rfl), fun y => ⟨fun _ => ⟨fun _ => st 0 _ S1 f1 k (Or.inl rfl) (by rw [if_neg (fun w => y (z1.mpr w))]; rfl), fun _ => by omega⟩, fun _ => by omega⟩⟩⟩
  · rw [if_neg (by omega), if_neg (by omega), if_neg (by omega), if_neg (by omega), if_neg (by omega), if_neg (by omega), if_neg (by omega), if_pos c] at k
    refine s_compareValues ra rb h h' (fun z S1 z1 z2 f1 => ?_)
    intro _ _
    refine ⟨fun _ => ⟨fun y => absurd c y, fun _ => ⟨fun y => st 1 _ S1 f1 k (Or.inr rfl) (by rw [if_pos (z2.mp y)]; rfl), fun y => ⟨fun _ => st 0 _ S1 f1 k (Or.inl rfl) (by rw [if_neg (fun w => y (z2.mpr w))]; rfl), fun _ => by omega⟩⟩⟩, fun _ => by omega⟩
  · rw [if_neg (by omega), if_neg (by omega), if_neg (by omega), if_neg (by omega), if_neg (by omega), if_neg (by omega), if_neg (by omega), if_neg (by omega), if_pos c] at k
    refine s_compareValues ra rb h h' (fun z S1 z1 z2 f1 => ?_)
    intro _ _
    have le : q < p ↔ ¬ z ≤ 0 := by
      rw [← Rat.not_le, Rat.le_iff_lt_or_eq, ← z1, ← z2]
      omega
    refine ⟨fun _ => ⟨fun _ => ⟨fun y => absurd c y, fun _ => ⟨fun y => st 0 _ S1 f1 k (Or.inl rfl) ?_, fun y => st 1 _ S1 f1 k (Or.inr rfl) ?_⟩⟩, fun _ => by omega⟩, fun _ => by omega⟩
    · rw [if_neg (fun w => (le.mp w) y)]; rfl
    · rw [if_pos (le.mpr y)]; rfl
  · rw [if_neg (by omega), if_neg (by omega), if_neg (by omega), if_neg (by omega), if_neg (by omega), if_neg (by omega), if_neg (by omega), if_neg (by omega), if_neg (by omega), if_pos c] at k
    refine s_sign ra h ?_
    intro _ _
    refine ⟨fun y => st 0 _ S vfr.refl k (Or.inl rfl) ?_, fun y => ?_⟩
    · rw [if_pos (Or.inl (sign_zero.mp y))]; rfl
    refine s_sign rb h' ?_
    intro _ _
    refine ⟨fun y2 => st 0 _ S vfr.refl k (Or.inl rfl) ?_, fun y2 => st 1 _ S vfr.refl k (Or.inr rfl) ?_⟩
    · rw [if_pos (Or.inr (sign_zero.mp y2))]; rfl
    · rw [if_neg]
      · rfl
      · rintro (w | w)
        · exact y (sign_zero.mpr w)
        · exact y2 (sign_zero.mpr w)
  · rw [if_neg (by omega), if_neg (by omega), if_neg (by omega), if_neg (by omega), if_neg (by omega), if_neg (by omega), if_neg (by omega), if_neg (by omega), if_neg (by omega), if_neg (by omega)] at k
    refine s_sign ra h ?_
    intro _ _
    refine ⟨fun y => st 1 _ S vfr.refl k (Or.inr rfl) ?_, fun y => ?_⟩
    · rw [if_neg (fun w => y (sign_zero.mpr w.1))]; rfl
    refine s_sign rb h' ?_
    intro _ _
    refine ⟨fun y2 => st 0 _ S vfr.refl k (Or.inl rfl) ?_, fun y2 => st 1 _ S vfr.refl k (Or.inr rfl) ?_⟩
    · rw [if_pos ⟨sign_zero.mp (by omega), sign_zero.mp y2⟩]; rfl
    · rw [if_neg (fun w => y2 (sign_zero.mpr w.2))]; rfl

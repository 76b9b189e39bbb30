/-! the model's words: outNumber, number -/
set_option maxRecDepth 100000
def decQ : Nat → Int → List Int
  | 0, _ => []
  | k + 1, v => decQ k (v / 10) ++ [48 + v % 10]
def ndg : Nat → Int → Nat
  | 0, _ => 1
  | f + 1, v => if v < 10 then 1 else ndg f (v / 10) + 1
/-- a number's digits -/
def numS (v : Int) : List Int := decQ (ndg 10 v) v
theorem decQ_len : ∀ (k : Nat) (v : Int), (decQ k v).length = k
  | 0, _ => rfl
  | k + 1, v => by
    show (decQ k (v / 10) ++ [48 + v % 10]).length = k + 1
    rw [List.length_append, decQ_len k, List.length_singleton]
theorem div10 (v : Int) (k : Nat) : v / 10 ^ k / 10 = v / 10 ^ (k + 1) := by
  rw [Int.ediv_ediv_of_nonneg (Int.le_of_lt (Int.pow_pos (by decide))), Int.pow_succ]
theorem s_outNumber {g : mG} {S : mS} {v : Int} {L : List Int} {Qp : Option mV → mS → Prop} (hv : 0 ≤ v ∧ v ≤ 2147483647) (h : prt S L) (hlen : L.length + 10 ≤ 2000) (k : ∀ S', prt S' (L ++ numS v) → pfr S S' → Qp none S') : CX_outNumber g [mt, mi v] S Qp := by
  refine of_outNumber
    (fun n l1 l2 T => T = S ∧ l1 = v ∧ ∃ j : Nat, l2 = 10 ^ j ∧ j ≤ 9 ∧ ndg 10 v = j + ndg (10 - j) (v / 10 ^ j) ∧ n = 100 - j)
    (fun n l1 l2 T => l1 = v ∧ pfr S T ∧ ((∃ j : Nat, l2 = 10 ^ j ∧ j < ndg 10 v ∧ ndg 10 v ≤ 10 ∧ prt T (L ++ decQ (ndg 10 v - j - 1) (v / 10 ^ (j + 1))) ∧ n = j + 1) ∨ (l2 = 0 ∧ prt T (L ++ numS v) ∧ n = 0)))
    ?_ ?_ ?_
  · intro _ _
    exact ⟨_, rfl, rfl, 0, rfl, by omega, by simp, rfl⟩
  · rintro n l1 l2 T hS _ _ ⟨rfl, rfl, j, rfl, hj, hn, rfl⟩
    have pp : (0 : Int) < 10 ^ j := Int.pow_pos (by decide)
    refine ⟨hv.1, pp, fun c => ?_, fun c => ?_⟩
    · have e : ndg (10 - j) (l1 / 10 ^ j) = 1 := by
        rw [show 10 - j = (9 - j) + 1 by omega]
        show (if l1 / 10 ^ j < 10 then 1 else _) = 1
        rw [if_pos c]
      rw [e] at hn
      refine ⟨_, ?_, rfl, fun _ _ _ => rfl, Or.inl ⟨j, rfl, by omega, by omega, ?_, rfl⟩⟩
      · omega
      · rw [show ndg 10 l1 - j - 1 = 0 by omega]
        show prt T (L ++ [])
        rw [List.append_nil]
        exact h
    · have c : 10 ≤ l1 / 10 ^ j := by omega
      have c2 := (Int.le_ediv_iff_mul_le pp).mp c
      have e1 : (10 : Int) ^ (j + 1) = 10 ^ j * 10 := Int.pow_succ _ _
      have j9 : j + 1 ≤ 9 := by
        by_cases z : j + 1 ≤ 9
        · exact z
        · exfalso
          have : j = 9 := by omega
          subst this
          have : (10 : Int) ^ 9 = 1000000000 := by decide
          omega
      refine ⟨by omega, _, ?_, rfl, rfl, j + 1, by rw [e1], j9, ?_, rfl⟩
      · omega
      · have e : ndg (10 - j) (l1 / 10 ^ j) = ndg (10 - (j + 1)) (l1 / 10 ^ (j + 1)) + 1 := by
          rw [show 10 - j = (10 - (j + 1)) + 1 by omega, ← div10]
          show (if l1 / 10 ^ j < 10 then 1 else _) = _
          rw [if_neg (by omega)]
        omega
  · rintro n l1 l2 T hS _ _ ⟨rfl, f, r⟩
    rcases r with ⟨j, rfl, j1, j2, hp, rfl⟩ | ⟨rfl, hp, rfl⟩
    · have pp : (0 : Int) < 10 ^ j := Int.pow_pos (by decide)
      have q0 : 0 ≤ l1 / 10 ^ j := Int.ediv_nonneg hv.1 (Int.le_of_lt pp)
      refine ⟨fun c => by omega, fun c => ⟨hv.1, pp, q0, by omega, ?_⟩⟩
      refine s_prints hp (by rw [List.length_append, decQ_len]; omega) (fun S5 h5 f5 => ?_)
      intro _
      have e : L ++ decQ (ndg 10 l1 - j - 1) (l1 / 10 ^ (j + 1)) ++ [48 + l1 / 10 ^ j % 10] = L ++ decQ (ndg 10 l1 - j) (l1 / 10 ^ j) := by
        rw [List.append_assoc]
        congr 1
        rw [show ndg 10 l1 - j = (ndg 10 l1 - j - 1) + 1 by omega]
        show _ = decQ (ndg 10 l1 - j - 1) (l1 / 10 ^ j / 10) ++ [48 + l1 / 10 ^ j % 10]
        rw [div10, Nat.add_sub_cancel]
      rw [e] at h5
      have f' : pfr S S5 := fun k a b => (f5 k a b).trans (f k a b)
      cases j with
      | zero =>
        refine ⟨by omega, _, ?_, rfl, f', Or.inr ⟨rfl, ?_, rfl⟩⟩
        · omega
        · rw [Int.pow_zero, Int.ediv_one] at h5
          exact h5
      | succ j =>
        refine ⟨by omega, _, ?_, rfl, f', Or.inl ⟨j, ?_, by omega, j2, ?_, rfl⟩⟩
        · omega
        · rw [Int.pow_succ, Int.mul_ediv_cancel _ (by decide)]
        · rw [show ndg 10 l1 - j - 1 = ndg 10 l1 - (j + 1) by omega]
          exact h5
    · exact ⟨fun _ => k T hp f, fun c => absurd (Int.le_refl 0) c⟩
/-- digits are eaten: their value, how many -/
def eatD (base : Int) : Nat → Int → List Int → Int × Nat
  | 0, v, _ => (v, 0)
  | _ + 1, v, [] => (v, 0)
  | m + 1, v, c :: l => if 0 ≤ digQ c base then ((eatD base m (base * v + digQ c base) l).1, (eatD base m (base * v + digQ c base) l).2 + 1) else (v, 0)
def numB (c d : Int) : Int := if c = 48 then (if d = 120 then 16 else if d = 111 then 8 else if d = 98 then 2 else 10) else 10
theorem digQ_lt {c b : Int} (hb : 0 < b) : digQ c b < b := by
  unfold digQ
  repeat' (first | omega | split)
/-- a number from a place on: its value, how many digits, where they begin -/
def numQ (L : List Int) (i : Nat) : Int × Nat × Nat :=
  if numB (L[i]?.getD (-1)) (L[i + 1]?.getD (-1)) = 10 then ((eatD 10 9 0 (L.drop i)).1, (eatD 10 9 0 (L.drop i)).2, i)
  else ((eatD (numB (L[i]?.getD (-1)) (L[i + 1]?.getD (-1))) 7 0 (L.drop (i + 2))).1, (eatD (numB (L[i]?.getD (-1)) (L[i + 1]?.getD (-1))) 7 0 (L.drop (i + 2))).2, i + 2)

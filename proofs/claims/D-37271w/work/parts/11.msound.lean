/-! mvc suffices on the machine -/
theorem ms_sl : ∀ n : Fin 32, ((Int32.ofInt (n.val : Int) &&& 31).toBitVec.smod 32).toNat = n.val := by decide +kernel
theorem ms_su : ∀ n : Fin 32, (((Int32.ofInt (n.val : Int)).toUInt32 &&& Int32.toUInt32 31).toBitVec % 32).toNat = n.val := by decide +kernel
theorem ms_sL : ∀ n : Fin 64, (((Int32.ofInt (n.val : Int)).toInt64 &&& 63).toBitVec.smod 64).toNat = n.val := by decide +kernel
theorem ms_nI {a : Int} (h : 0 ≤ a) : Int32.ofInt a = nI a.toNat := by
  show _ = Int32.ofNat _
  rw [← Int32.ofInt_eq_ofNat, Int.toNat_of_nonneg h]
theorem ms_tn (a : Int) : (Int32.ofInt a).toBitVec.toNat = (a % 4294967296).toNat := by
  show (BitVec.ofInt 32 a).toNat = _
  rw [BitVec.toNat_ofInt]
  rfl
theorem ms_tnL (a : Int) : (Int64.ofInt a).toBitVec.toNat = (a % 18446744073709551616).toNat := by
  show (BitVec.ofInt 64 a).toNat = _
  rw [BitVec.toNat_ofInt]
  rfl
theorem ms_and {a b w : Int} (k : Nat) (hk : k ≤ 16) (hb : (Int32.ofInt b).toBitVec.toNat = 2 ^ k - 1) (hw : w = ((2 ^ k : Nat) : Int)) (hd : ((2 ^ k : Nat) : Int) ∣ 4294967296) : Int32.ofInt a &&& Int32.ofInt b = Int32.ofInt (a % w) := by
  subst hw
  rw [pk_and _ k hb, ms_tn]
  have hp : 0 < ((2 ^ k : Nat) : Int) := by exact_mod_cast Nat.two_pow_pos k
  have h0 : 0 ≤ a % ((2 ^ k : Nat) : Int) := Int.emod_nonneg _ (by omega)
  rw [ms_nI h0]
  congr 1
  have h1 : 0 ≤ a % 4294967296 := Int.emod_nonneg _ (by decide)
  have h2 : (((a % 4294967296).toNat % 2 ^ k : Nat) : Int) = a % ((2 ^ k : Nat) : Int) := by
    rw [Int.natCast_emod, Int.toNat_of_nonneg h1, Int.emod_emod_of_dvd _ hd]
  omega
theorem ms_andL {a b w : Int} (k : Nat) (hb : (Int64.ofInt b).toBitVec.toNat = 2 ^ k - 1) (hw : w = ((2 ^ k : Nat) : Int)) (hd : ((2 ^ k : Nat) : Int) ∣ 18446744073709551616) : Int64.ofInt a &&& Int64.ofInt b = Int64.ofInt (a % w) := by
  subst hw
  apply Int64.toBitVec_inj.mp
  apply BitVec.eq_of_toNat_eq
  rw [Int64.toBitVec_and, BitVec.toNat_and, hb, Nat.and_two_pow_sub_one_eq_mod, ms_tnL, ms_tnL]
  have h1 : 0 ≤ a % 18446744073709551616 := Int.emod_nonneg _ (by decide)
  have hp : 0 < ((2 ^ k : Nat) : Int) := by exact_mod_cast Nat.two_pow_pos k
  have h0 : 0 ≤ a % ((2 ^ k : Nat) : Int) := Int.emod_nonneg _ (by omega)
  have h3 : a % ((2 ^ k : Nat) : Int) < ((2 ^ k : Nat) : Int) := Int.emod_lt_of_pos _ hp
  have h4 : ((2 ^ k : Nat) : Int) ≤ 18446744073709551616 := Int.le_of_dvd (by decide) hd
  have h2 : (((a % 18446744073709551616).toNat % 2 ^ k : Nat) : Int) = a % ((2 ^ k : Nat) : Int) := by
    rw [Int.natCast_emod, Int.toNat_of_nonneg h1, Int.emod_emod_of_dvd _ hd]
  rw [Int.emod_eq_of_lt h0 (by omega)]
  omega
theorem ms_shr {a b : Int} (ha : i32 a) (h0 : 0 ≤ b) (h1 : b < 32) : Int32.ofInt a >>> (Int32.ofInt b &&& 31) = Int32.ofInt (a / 2 ^ b.toNat) ∧ i32 (a / 2 ^ b.toNat) := by
  have hs := ms_sl ⟨b.toNat, by omega⟩
  dsimp only at hs
  rw [Int.toNat_of_nonneg h0] at hs
  have hp : (1 : Int) ≤ 2 ^ b.toNat := by exact_mod_cast Nat.one_le_two_pow
  have hi : i32 (a / 2 ^ b.toNat) := by
    obtain ⟨a1, a2⟩ := ha
    refine ⟨?_, ?_⟩
    · rcases Int.lt_or_le a 0 with q | q
      · have := Int.ediv_le_ediv (a := -2147483648) (b := a) (c := 2 ^ b.toNat) (by omega) a1
        have h2 : (-2147483648 : Int) ≤ -2147483648 / 2 ^ b.toNat := by
          rw [Int.le_ediv_iff_mul_le (by omega)]
          omega
        omega
      · have := Int.ediv_nonneg q (by omega : (0 : Int) ≤ 2 ^ b.toNat)
        omega
    · rcases Int.lt_or_le a 0 with q | q
      · have := Int.ediv_neg_of_neg_of_pos q (by omega : (0 : Int) < 2 ^ b.toNat)
        omega
      · have := Int.ediv_le_self (2 ^ b.toNat) q
        omega
  refine ⟨?_, hi⟩
  rw [← Int32.toInt_inj, pk_shr _ _ _ hs, i32_lt ha, i32_lt hi, Int.shiftRight_eq_div_pow]
  norm_cast
theorem ms_shrL {a b : Int} (ha : i64 a) (h0 : 0 ≤ b) (h1 : b < 64) : Int64.ofInt a >>> ((Int32.ofInt b).toInt64 &&& 63) = Int64.ofInt (a / 2 ^ b.toNat) ∧ i64 (a / 2 ^ b.toNat) := by
  have hs := ms_sL ⟨b.toNat, by omega⟩
  dsimp only at hs
  rw [Int.toNat_of_nonneg h0] at hs
  have hp : (1 : Int) ≤ 2 ^ b.toNat := by exact_mod_cast Nat.one_le_two_pow
  have hi : i64 (a / 2 ^ b.toNat) := by
    obtain ⟨a1, a2⟩ := ha
    refine ⟨?_, ?_⟩
    · rcases Int.lt_or_le a 0 with q | q
      · have := Int.ediv_le_ediv (a := -9223372036854775808) (b := a) (c := 2 ^ b.toNat) (by omega) a1
        have h2 : (-9223372036854775808 : Int) ≤ -9223372036854775808 / 2 ^ b.toNat := by
          rw [Int.le_ediv_iff_mul_le (by omega)]
          omega
        omega
      · have := Int.ediv_nonneg q (by omega : (0 : Int) ≤ 2 ^ b.toNat)
        omega
    · rcases Int.lt_or_le a 0 with q | q
      · have := Int.ediv_neg_of_neg_of_pos q (by omega : (0 : Int) < 2 ^ b.toNat)
        omega
      · have := Int.ediv_le_self (2 ^ b.toNat) q
        omega
  refine ⟨?_, hi⟩
  rw [← Int64.toInt_inj, i64_lt hi]
  show ((Int64.ofInt a).toBitVec.sshiftRight (((Int32.ofInt b).toInt64 &&& 63).toBitVec.smod 64).toNat).toInt = _
  rw [hs, BitVec.toInt_sshiftRight]
  show (Int64.ofInt a).toInt >>> _ = _
  rw [i64_lt ha, Int.shiftRight_eq_div_pow]
  norm_cast
theorem ms_ushr {a b : Int} (ha : i32 a) (h : 0 ≤ a) (h0 : 0 ≤ b) (h1 : b < 32) : ((Int32.ofInt a).toUInt32 >>> ((Int32.ofInt b).toUInt32 &&& Int32.toUInt32 31)).toInt32 = Int32.ofInt (a / 2 ^ b.toNat) ∧ i32 (a / 2 ^ b.toNat) := by
  have hs := ms_su ⟨b.toNat, by omega⟩
  dsimp only at hs
  rw [Int.toNat_of_nonneg h0] at hs
  have hi := (ms_shr ha h0 h1).2
  refine ⟨?_, hi⟩
  obtain ⟨a1, a2⟩ := ha
  rw [ms_nI h, pk_ushrN (by omega) _ _ hs]
  have h3 : (0 : Int) ≤ a / 2 ^ b.toNat := Int.ediv_nonneg h (by have : (0 : Int) < 2 ^ b.toNat := by exact_mod_cast Nat.two_pow_pos _
                                                                 omega)
  rw [ms_nI h3]
  congr 1
  have h4 : ((a.toNat / 2 ^ b.toNat : Nat) : Int) = a / 2 ^ b.toNat := by
    rw [Int.natCast_ediv, Int.toNat_of_nonneg h]
    norm_cast
  omega
theorem ms_shl {a b : Int} (h : 0 ≤ a) (h0 : 0 ≤ b) (h1 : b < 32) (hi : i32 (a * 2 ^ b.toNat)) : Int32.ofInt a <<< (Int32.ofInt b &&& 31) = Int32.ofInt (a * 2 ^ b.toNat) := by
  have hs := ms_sl ⟨b.toNat, by omega⟩
  dsimp only at hs
  rw [Int.toNat_of_nonneg h0] at hs
  have hp : (0 : Int) < 2 ^ b.toNat := by exact_mod_cast Nat.two_pow_pos _
  have h4 : ((a.toNat * 2 ^ b.toNat : Nat) : Int) = a * 2 ^ b.toNat := by
    rw [Int.natCast_mul, Int.toNat_of_nonneg h]
    norm_cast
  rw [ms_nI h, pk_shlN _ _ hs (by have := hi.2; omega), ms_nI (Int.mul_nonneg h (by omega))]
  congr 1
  omega
theorem ms_div {a b : Int} (ha : i32 a) (hb : i32 b) (h : 0 ≤ a) (h0 : 0 < b) : Int32.ofInt a / Int32.ofInt b = Int32.ofInt (a / b) ∧ i32 (a / b) := by
  obtain ⟨a1, a2⟩ := ha
  obtain ⟨b1, b2⟩ := hb
  have e : ((a.toNat / b.toNat : Nat) : Int) = a / b := by
    rw [Int.natCast_ediv, Int.toNat_of_nonneg h, Int.toNat_of_nonneg (by omega)]
  have h3 := Int.ediv_nonneg h (by omega : 0 ≤ b)
  have h4 := Int.ediv_le_self b h
  refine ⟨?_, by constructor <;> omega⟩
  rw [ms_nI h, ms_nI (by omega : 0 ≤ b), pk_div (by omega) (by omega) (by omega), ms_nI h3]
  congr 1
  omega
theorem ms_rem {a b : Int} (ha : i32 a) (hb : i32 b) (h : 0 ≤ a) (h0 : 0 < b) : Int32.ofInt a - Int32.ofInt a / Int32.ofInt b * Int32.ofInt b = Int32.ofInt (a % b) ∧ i32 (a % b) := by
  obtain ⟨a1, a2⟩ := ha
  obtain ⟨b1, b2⟩ := hb
  have e : ((a.toNat % b.toNat : Nat) : Int) = a % b := by
    rw [Int.natCast_emod, Int.toNat_of_nonneg h, Int.toNat_of_nonneg (by omega)]
  have h3 := Int.emod_nonneg a (by omega : b ≠ 0)
  have h4 := Int.emod_lt_of_pos a h0
  refine ⟨?_, by constructor <;> omega⟩
  rw [ms_nI h, ms_nI (by omega : 0 ≤ b), pk_rem (by omega) (by omega) (by omega), ms_nI h3]
  congr 1
  omega
theorem mask_ok {a b w : Int} (h : (b = 65535 ∧ w = 65536) ∨ (b = 31 ∧ w = 32) ∨ (b = 15 ∧ w = 16) ∨ (b = 1 ∧ w = 2)) : (Int32.ofInt a &&& Int32.ofInt b = Int32.ofInt (a % w) ∧ i32 (a % w)) ∧ (Int64.ofInt a &&& Int64.ofInt b = Int64.ofInt (a % w) ∧ i64 (a % w)) := by
  rcases h with ⟨rfl, rfl⟩ | ⟨rfl, rfl⟩ | ⟨rfl, rfl⟩ | ⟨rfl, rfl⟩
  · exact ⟨⟨ms_and 16 (by decide) (by decide) (by decide) (by decide), by constructor <;> omega⟩, ms_andL 16 (by decide) (by decide) (by decide), by constructor <;> omega⟩
  · exact ⟨⟨ms_and 5 (by decide) (by decide) (by decide) (by decide), by constructor <;> omega⟩, ms_andL 5 (by decide) (by decide) (by decide), by constructor <;> omega⟩
  · exact ⟨⟨ms_and 4 (by decide) (by decide) (by decide) (by decide), by constructor <;> omega⟩, ms_andL 4 (by decide) (by decide) (by decide), by constructor <;> omega⟩
  · exact ⟨⟨ms_and 1 (by decide) (by decide) (by decide) (by decide), by constructor <;> omega⟩, ms_andL 1 (by decide) (by decide) (by decide), by constructor <;> omega⟩
theorem mmask_w {b : Int} {k : Int → Prop} (hk : mmask b k) : ∃ w, ((b = 65535 ∧ w = 65536) ∨ (b = 31 ∧ w = 32) ∨ (b = 15 ∧ w = 16) ∨ (b = 1 ∧ w = 2)) ∧ k w := by
  rcases mmask_ok hk with ⟨h, q⟩ | ⟨h, q⟩ | ⟨h, q⟩ | ⟨h, q⟩
  · exact ⟨_, Or.inl ⟨h, rfl⟩, q⟩
  · exact ⟨_, Or.inr (Or.inl ⟨h, rfl⟩), q⟩
  · exact ⟨_, Or.inr (Or.inr (Or.inl ⟨h, rfl⟩)), q⟩
  · exact ⟨_, Or.inr (Or.inr (Or.inr ⟨h, rfl⟩)), q⟩
theorem mtab_ok {x : Int} {f : Int → Prop} : ∀ (os : List Int) (lo : Int), mtab x f lo os → lo ≤ x → x < lo + os.length → ∃ o, os[(x - lo).toNat]? = some o ∧ f o := by
  intro os
  induction os with
  | nil =>
    intro lo _ h1 h2
    simp at h2
    omega
  | cons o os ih =>
    intro lo h h1 h2
    obtain ⟨h3, h4⟩ := h
    by_cases hx : x = lo
    · exact ⟨o, by rw [hx, Int.sub_self]; rfl, h3 hx⟩
    · obtain ⟨o', e, q⟩ := ih (lo + 1) h4 (by omega) (by rw [List.length_cons] at h2; omega)
      refine ⟨o', ?_, q⟩
      rw [show (x - lo).toNat = (x - (lo + 1)).toNat + 1 by omega, List.getElem?_cons_succ]
      exact e
theorem mlook_ok {x : Int} {f : Int → Prop} {d : Int} : ∀ (ps : List (Int × Int)), mlook x f d ps → f (Op.lookupswitch.offset ps d x) := by
  intro ps
  induction ps with
  | nil => intro h; exact h
  | cons q r ih =>
    obtain ⟨k, o⟩ := q
    intro h
    obtain ⟨h1, h2⟩ := h
    show f (if k = x then o else Op.lookupswitch.offset r d x)
    by_cases hk : k = x
    · rw [if_pos hk]
      exact h1 hk.symm
    · rw [if_neg hk]
      exact ih (h2 (fun z => hk z.symm))
theorem moff_in {x d : Int} : ∀ (ps : List (Int × Int)), Op.lookupswitch.offset ps d x = d ∨ ∃ q ∈ ps, Op.lookupswitch.offset ps d x = q.2 := by
  intro ps
  induction ps with
  | nil => exact Or.inl rfl
  | cons q r ih =>
    obtain ⟨k, o⟩ := q
    show (if k = x then o else Op.lookupswitch.offset r d x) = d ∨ _
    by_cases hk : k = x
    · right
      refine ⟨(k, o), List.mem_cons_self, ?_⟩
      show (if k = x then o else Op.lookupswitch.offset r d x) = o
      rw [if_pos hk]
    · rw [if_neg hk]
      rcases ih with h | ⟨q, h1, h2⟩
      · exact Or.inl h
      · right
        refine ⟨q, List.mem_cons_of_mem _ h1, ?_⟩
        show (if k = x then o else Op.lookupswitch.offset r d x) = _
        rw [if_neg hk]
        exact h2

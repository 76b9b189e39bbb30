/-! THE MODEL'S LITTLE MACHINE. RankwiseModel makes nothing after its construction and throws nothing: its methods work on fixed int and boolean arrays. Its memory is one function S: field number, place -> Int (a field that is no array: place 0). mvc turns a method's instructions into what must hold of Ints (no overflow, places within); mvc_ok says that this suffices on the machine. -/
abbrev mV : Type := Int ⊕ Int ⊕ Nat
abbrev mS : Type := Nat → Int → Int
abbrev mL : Type := List (Option mV)
/-- launch, addresses (99: the object; k: the array of field k), its class, its slots, int[] and boolean[] -/
abbrev mG : Type := Launch × (Nat → Nat) × ClassId × (Nat → Nat) × ClassId × ClassId
abbrev mi (z : Int) : mV := .inl z
abbrev ml (z : Int) : mV := .inr (.inl z)
abbrev mr (k : Nat) : mV := .inr (.inr k)
abbrev mt : mV := .inr (.inr 99)
def i32 (z : Int) : Prop := -2147483648 ≤ z ∧ z ≤ 2147483647
def i64 (z : Int) : Prop := -9223372036854775808 ≤ z ∧ z ≤ 9223372036854775807
def mv (g : mG) : mV → Value
  | .inl z => .int (Int32.ofInt z)
  | .inr (.inl z) => .long (Int64.ofInt z)
  | .inr (.inr k) => .ref (g.2.1 k)
def mok : mV → Prop
  | .inl z => i32 z
  | .inr (.inl z) => i64 z
  | .inr (.inr _) => True
def mcat : mV → Nat
  | .inl _ => 1
  | .inr (.inl _) => 2
  | .inr (.inr _) => 1
theorem mcat_ok (g : mG) (v : mV) : (mv g v).category = mcat v := by
  rcases v with z | z | k <;> rfl
/-- field k holds an array -/
def marr (k : Nat) : Bool := mkd k == 1 || mkd k == 2
def mrf (k : Nat) : Bool := k == 99 || marr k
def mfv (g : mG) (S : mS) (k : Nat) : Value := if marr k then .ref (g.2.1 k) else .int (Int32.ofInt (S k 0))
def mcl (g : mG) (k : Nat) : ClassId := if mkd k = 2 then g.2.2.2.2.2 else g.2.2.2.2.1
def mP (g : mG) (S : mS) (H : Heap) : Prop :=
  t_OB (g.2.1 99) g.2.2.1 86 g.2.2.2.1 H (mfv g S) ∧
  (∀ k, marr k = true → H[g.2.1 k]? = some (arrV (mcl g k) (mln k) (fun j => .int (Int32.ofInt (S k (j : Nat)))))) ∧
  ∀ k j, i32 (S k j)
def mK (g : mG) (U : State) : Prop := u_Kn U RX6 TX6 86 g.2.2.1 g.2.2.2.1 ∧ ArrOfT U g.2.2.2.2.1 .int ∧ ArrOfT U g.2.2.2.2.2 .boolean
def mD (g : mG) : Prop := ∀ i j, mrf i = true → mrf j = true → g.2.1 i = g.2.1 j → i = j
def mA (g : mG) : Nat → Prop := fun q => ∃ k, mrf k = true ∧ q = g.2.1 k
theorem mK.moved {g : mG} {u U : State} (hvm : u.vm.Alike U.vm) (h : mK g u) : mK g U := ⟨u_Kn_moved hvm h.1, arrOfT_moved hvm h.2.1, arrOfT_moved hvm h.2.2⟩
/-- memory with another value at a place -/
def mup (S : mS) (k : Nat) (j : Int) (v : Int) : mS := fun k' j' => if k' = k ∧ j' = j then v else S k' j'
theorem mup_ne {S : mS} {k k' : Nat} {j v j' : Int} (h : k' ≠ k) : mup S k j v k' j' = S k' j' := if_neg (fun q => h q.1)
theorem mup_eq {S : mS} {k : Nat} {j v : Int} : mup S k j v k j = v := if_pos ⟨rfl, rfl⟩
theorem mup_at {S : mS} {k : Nat} {j v j' : Int} : mup S k j v k j' = if j' = j then v else S k j' := by simp [mup]
theorem mup_nj {S : mS} {k : Nat} {j v j' : Int} (h : j' ≠ j) : mup S k j v k j' = S k j' := by simp [mup, h]
theorem i32_lt {z : Int} (h : i32 z) : (Int32.ofInt z).toInt = z := Int32.toInt_ofInt_of_le (by have := h.1; omega) (by have := h.2; omega)
theorem i64_lt {z : Int} (h : i64 z) : (Int64.ofInt z).toInt = z := Int64.toInt_ofInt_of_le (by have := h.1; omega) (by have := h.2; omega)
theorem i32_le_iff {a b : Int} (ha : i32 a) (hb : i32 b) : Int32.ofInt a ≤ Int32.ofInt b ↔ a ≤ b := by rw [Int32.le_iff_toInt_le, i32_lt ha, i32_lt hb]
theorem i32_lt_iff {a b : Int} (ha : i32 a) (hb : i32 b) : Int32.ofInt a < Int32.ofInt b ↔ a < b := by rw [Int32.lt_iff_toInt_lt, i32_lt ha, i32_lt hb]
theorem i32_eq_iff {a b : Int} (ha : i32 a) (hb : i32 b) : Int32.ofInt a = Int32.ofInt b ↔ a = b := by rw [← Int32.toInt_inj, i32_lt ha, i32_lt hb]
theorem i64_lt_iff {a b : Int} (ha : i64 a) (hb : i64 b) : Int64.ofInt a < Int64.ofInt b ↔ a < b := by rw [Int64.lt_iff_toInt_lt, i64_lt ha, i64_lt hb]
theorem i64_eq_iff {a b : Int} (ha : i64 a) (hb : i64 b) : Int64.ofInt a = Int64.ofInt b ↔ a = b := by rw [← Int64.toInt_inj, i64_lt ha, i64_lt hb]
theorem i32_ne0 {a : Int} (ha : i32 a) : Int32.ofInt a = 0 ↔ a = 0 := i32_eq_iff ha (b := 0) ⟨by decide, by decide⟩
theorem i32_lt0 {a : Int} (ha : i32 a) : Int32.ofInt a < 0 ↔ a < 0 := i32_lt_iff ha (b := 0) ⟨by decide, by decide⟩
theorem i32_le0 {a : Int} (ha : i32 a) : Int32.ofInt a ≤ 0 ↔ a ≤ 0 := i32_le_iff ha (b := 0) ⟨by decide, by decide⟩
theorem i32_0lt {a : Int} (ha : i32 a) : 0 < Int32.ofInt a ↔ 0 < a := i32_lt_iff (a := 0) ⟨by decide, by decide⟩ ha
theorem i32_0le {a : Int} (ha : i32 a) : 0 ≤ Int32.ofInt a ↔ 0 ≤ a := i32_le_iff (a := 0) ⟨by decide, by decide⟩ ha
theorem i32_nat {a : Int} (ha : i32 a) : (Int32.ofInt a).toNatClampNeg = a.toNat := by
  show (Int32.ofInt a).toInt.toNat = a.toNat
  rw [i32_lt ha]
theorem i32_in {a : Int} {n : Nat} (ha : i32 a) (h0 : 0 ≤ a) (h1 : a < n) : ¬ (Int32.ofInt a < 0 ∨ n ≤ (Int32.ofInt a).toNatClampNeg) := by
  rw [i32_lt0 ha, i32_nat ha]
  omega
theorem i32_byte {a : Int} (h : -128 ≤ a ∧ a ≤ 127) : (Int8.ofInt a).toInt32 = Int32.ofInt a := by
  obtain ⟨h1, h2⟩ := h
  rw [← Int32.toInt_inj, Int8.toInt_toInt32, Int8.toInt_ofInt_of_le (by omega) (by omega), i32_lt ⟨by omega, by omega⟩]
theorem i32_short {a : Int} (h : -32768 ≤ a ∧ a ≤ 32767) : (Int16.ofInt a).toInt32 = Int32.ofInt a := by
  obtain ⟨h1, h2⟩ := h
  rw [← Int32.toInt_inj, Int16.toInt_toInt32, Int16.toInt_ofInt_of_le (by omega) (by omega), i32_lt ⟨by omega, by omega⟩]
theorem i32_toLong {a : Int} (h : i32 a) : (Int32.ofInt a).toInt64 = Int64.ofInt a := by
  obtain ⟨h1, h2⟩ := h
  rw [← Int64.toInt_inj, Int32.toInt_toInt64, i32_lt ⟨h1, h2⟩, i64_lt ⟨by omega, by omega⟩]
theorem i64_toInt {a : Int} (h : i32 a) : (Int64.ofInt a).toInt32 = Int32.ofInt a := by
  rw [← i32_toLong h, Int32.toInt32_toInt64]
/-! the shapes of locals and operands -/
def mgI (L : mL) (i : Nat) (k : Int → Prop) : Prop := match L[i]? with
  | some (some (.inl z)) => k z
  | _ => False
def mgL (L : mL) (i : Nat) (k : Int → Prop) : Prop := match L[i]? with
  | some (some (.inr (.inl z))) => k z
  | _ => False
def mgA (L : mL) (i : Nat) (k : Nat → Prop) : Prop := match L[i]? with
  | some (some (.inr (.inr a))) => k a
  | _ => False
/-- a store at i spoils a long that began one ahead -/
def mclr (L : mL) (i : Nat) : mL := match i with
  | 0 => L
  | j + 1 => match L[j]? with
    | some (some (.inr (.inl _))) => L.set j none
    | _ => L
def mst1 (L : mL) (i : Nat) (v : mV) : mL := (mclr L i).set i (some v)
def mst2 (L : mL) (i : Nat) (v : mV) : mL := ((mclr L i).set i (some v)).set (i + 1) none
def mcond (c : ClassFile.Cond) (a b : Int) : Prop := match c with
  | .eq => a = b
  | .ne => a ≠ b
  | .lt => a < b
  | .ge => b ≤ a
  | .gt => b < a
  | .le => a ≤ b
def mtgt (pc : Nat) (off : Int) : Nat := ((pc : Int) + off).toNat
def mmask (b : Int) (k : Int → Prop) : Prop := match b with
  | 65535 => k 65536
  | 31 => k 32
  | 15 => k 16
  | 1 => k 2
  | _ => False
def mjmp (pc : Nat) : Instr → Bool
  | .ifCond _ off => decide (0 ≤ (pc : Int) + off)
  | .if_icmp _ off => decide (0 ≤ (pc : Int) + off)
  | .goto off => decide (0 ≤ (pc : Int) + off)
  | .tableswitch d lo hi os => decide (0 ≤ (pc : Int) + d) && os.toList.all (fun o => decide (0 ≤ (pc : Int) + o)) && decide (hi = lo + os.toList.length - 1)
  | .lookupswitch d ps => decide (0 ≤ (pc : Int) + d) && ps.toList.all (fun q => decide (0 ≤ (pc : Int) + q.2))
  | _ => true
/-- the cases of a table: value by value -/
def mtab (x : Int) (f : Int → Prop) : Int → List Int → Prop
  | _, [] => True
  | lo, o :: os => (x = lo → f o) ∧ mtab x f (lo + 1) os
def mlook (x : Int) (f : Int → Prop) (d : Int) : List (Int × Int) → Prop
  | [] => f d
  | (k, o) :: r => (x = k → f o) ∧ (x ≠ k → mlook x f d r)
/-- one instruction -/
def mvc1 (rt : Option FieldType) (h : Nat) (Qp : Option mV → mS → Prop) (ins : Instr) (len pc : Nat) (L : mL) (st : List mV) (S : mS) (nx : Nat → mL → List mV → mS → Prop) : Prop :=
  match ins, st with
  | .iconst i, st => nx (pc + 1) L (.inl i :: st) S
  | .bipush i, st => nx (pc + 2) L (.inl i :: st) S
  | .sipush i, st => nx (pc + 3) L (.inl i :: st) S
  | .lconst n, st => nx (pc + 1) L (.inr (.inl (n.val : Int)) :: st) S
  | .ldc k, st => (match mcon k with
    | some z => nx (pc + 2) L (.inl z :: st) S
    | none => False)
  | .ldc_w k, st => (match mcon k with
    | some z => nx (pc + 3) L (.inl z :: st) S
    | none => False)
  | .ldc2_w k, st => (match mcoL k with
    | some z => nx (pc + 3) L (.inr (.inl z) :: st) S
    | none => False)
  | .iload_n k, st => mgI L k.val (fun z => nx (pc + 1) L (.inl z :: st) S)
  | .iload k, st => mgI L k (fun z => nx (pc + 2) L (.inl z :: st) S)
  | .lload_n k, st => mgL L k.val (fun z => nx (pc + 1) L (.inr (.inl z) :: st) S)
  | .lload k, st => mgL L k (fun z => nx (pc + 2) L (.inr (.inl z) :: st) S)
  | .aload_n k, st => mgA L k.val (fun z => nx (pc + 1) L (.inr (.inr z) :: st) S)
  | .istore_n k, .inl z :: st => k.val < L.length ∧ nx (pc + 1) (mst1 L k.val (.inl z)) st S
  | .istore k, .inl z :: st => k < L.length ∧ nx (pc + 2) (mst1 L k (.inl z)) st S
  | .lstore_n k, .inr (.inl z) :: st => k.val + 1 < L.length ∧ nx (pc + 1) (mst2 L k.val (.inr (.inl z))) st S
  | .lstore k, .inr (.inl z) :: st => k + 1 < L.length ∧ nx (pc + 2) (mst2 L k (.inr (.inl z))) st S
  | .iinc k c, st => mgI L k (fun z => i32 (z + c) ∧ nx (pc + 3) (L.set k (some (.inl (z + c)))) st S)
  | .iadd, .inl b :: .inl a :: st => i32 (a + b) ∧ nx (pc + 1) L (.inl (a + b) :: st) S
  | .isub, .inl b :: .inl a :: st => i32 (a - b) ∧ nx (pc + 1) L (.inl (a - b) :: st) S
  | .imul, .inl b :: .inl a :: st => i32 (a * b) ∧ nx (pc + 1) L (.inl (a * b) :: st) S
  | .ineg, .inl a :: st => i32 (-a) ∧ nx (pc + 1) L (.inl (-a) :: st) S
  | .idiv, .inl b :: .inl a :: st => 0 ≤ a ∧ 0 < b ∧ nx (pc + 1) L (.inl (a / b) :: st) S
  | .irem, .inl b :: .inl a :: st => 0 ≤ a ∧ 0 < b ∧ nx (pc + 1) L (.inl (a % b) :: st) S
  | .iand, .inl b :: .inl a :: st => mmask b (fun w => nx (pc + 1) L (.inl (a % w) :: st) S)
  | .ior, .inl b :: .inl a :: st => nx (pc + 1) L (.inl (Int32.ofInt a ||| Int32.ofInt b).toInt :: st) S
  | .ishl, .inl b :: .inl a :: st => 0 ≤ a ∧ 0 ≤ b ∧ b < 32 ∧ i32 (a * 2 ^ b.toNat) ∧ nx (pc + 1) L (.inl (a * 2 ^ b.toNat) :: st) S
  | .ishr, .inl b :: .inl a :: st => 0 ≤ b ∧ b < 32 ∧ nx (pc + 1) L (.inl (a / 2 ^ b.toNat) :: st) S
  | .iushr, .inl b :: .inl a :: st => 0 ≤ a ∧ 0 ≤ b ∧ b < 32 ∧ nx (pc + 1) L (.inl (a / 2 ^ b.toNat) :: st) S
  | .i2l, .inl a :: st => nx (pc + 1) L (.inr (.inl a) :: st) S
  | .l2i, .inr (.inl a) :: st => i32 a ∧ nx (pc + 1) L (.inl a :: st) S
  | .ladd, .inr (.inl b) :: .inr (.inl a) :: st => i64 (a + b) ∧ nx (pc + 1) L (.inr (.inl (a + b)) :: st) S
  | .lsub, .inr (.inl b) :: .inr (.inl a) :: st => i64 (a - b) ∧ nx (pc + 1) L (.inr (.inl (a - b)) :: st) S
  | .lmul, .inr (.inl b) :: .inr (.inl a) :: st => i64 (a * b) ∧ nx (pc + 1) L (.inr (.inl (a * b)) :: st) S
  | .land, .inr (.inl b) :: .inr (.inl a) :: st => mmask b (fun w => nx (pc + 1) L (.inr (.inl (a % w)) :: st) S)
  | .lshr, .inl b :: .inr (.inl a) :: st => 0 ≤ b ∧ b < 64 ∧ nx (pc + 1) L (.inr (.inl (a / 2 ^ b.toNat)) :: st) S
  | .lcmp, .inr (.inl b) :: .inr (.inl a) :: st => (a < b → nx (pc + 1) L (.inl (-1) :: st) S) ∧ (a = b → nx (pc + 1) L (.inl 0 :: st) S) ∧ (b < a → nx (pc + 1) L (.inl 1 :: st) S)
  | .dup, v :: st => mcat v = 1 ∧ nx (pc + 1) L (v :: v :: st) S
  | .dup2, v :: w :: st => mcat v = 1 ∧ mcat w = 1 ∧ nx (pc + 1) L (v :: w :: v :: w :: st) S
  | .pop, v :: st => mcat v = 1 ∧ nx (pc + 1) L st S
  | .ifCond c off, .inl a :: st => (mcond c a 0 → nx (mtgt pc off) L st S) ∧ (¬ mcond c a 0 → nx (pc + 3) L st S)
  | .if_icmp c off, .inl b :: .inl a :: st => (mcond c a b → nx (mtgt pc off) L st S) ∧ (¬ mcond c a b → nx (pc + 3) L st S)
  | .goto off, st => nx (mtgt pc off) L st S
  | .tableswitch d lo hi os, .inl x :: st => mtab x (fun o => nx (mtgt pc o) L st S) lo os.toList ∧ (x < lo ∨ hi < x → nx (mtgt pc d) L st S)
  | .lookupswitch d ps, .inl x :: st => mlook x (fun o => nx (mtgt pc o) L st S) d ps.toList
  | .getfield idx, .inr (.inr a) :: st => a = 99 ∧ (match mfld idx with
    | some k => if marr k then nx (pc + 3) L (.inr (.inr k) :: st) S else (i32 (S k 0) → nx (pc + 3) L (.inl (S k 0) :: st) S)
    | none => False)
  | .putfield idx, .inl z :: .inr (.inr a) :: st => a = 99 ∧ (match mfld idx with
    | some k => marr k = false ∧ (mkd k = 3 → z = 0 ∨ z = 1) ∧ nx (pc + 3) L st (mup S k 0 z)
    | none => False)
  | .iaload, .inl i :: .inr (.inr k) :: st => mkd k = 1 ∧ 0 ≤ i ∧ i < mln k ∧ (i32 (S k i) → nx (pc + 1) L (.inl (S k i) :: st) S)
  | .baload, .inl i :: .inr (.inr k) :: st => mkd k = 2 ∧ 0 ≤ i ∧ i < mln k ∧ (i32 (S k i) → nx (pc + 1) L (.inl (S k i) :: st) S)
  | .iastore, .inl v :: .inl i :: .inr (.inr k) :: st => mkd k = 1 ∧ 0 ≤ i ∧ i < mln k ∧ nx (pc + 1) L st (mup S k i v)
  | .bastore, .inl v :: .inl i :: .inr (.inr k) :: st => mkd k = 2 ∧ 0 ≤ i ∧ i < mln k ∧ (v = 0 ∨ v = 1) ∧ nx (pc + 1) L st (mup S k i v)
  | .ireturn, [.inl z] => ((rt = some .int ∨ rt = some .boolean ∧ (z = 0 ∨ z = 1)) ∧ Qp (some (.inl z)) S)
  | .return_, [] => rt = none ∧ Qp none S
  | _, _ => False
/-! what a method's run has, at its start and end -/
def mPc (g : mG) (as : List mV) (S : mS) : Array Value → State → Prop := fun v U =>
  v = (as.map (mv g)).toArray ∧ mP g S U.heap ∧ mK g U ∧ mD g ∧ ∀ a ∈ as, mok a
def mQ (g : mG) (Qp : Option mV → mS → Prop) : Array Value → State → Outcome → State → Prop := fun _ st o t =>
  (∃ (r : Option mV) (S' : mS), o = .returned (r.map (mv g)) ∧ mP g S' t.heap ∧ (∀ v, r = some v → mok v) ∧ Qp r S') ∧ va_F (mA g) st t
/-- a method's contract: with these arguments and this memory it returns, and Qp holds of answer and memory; h: how deep it calls -/
def CM (g : mG) (y : MethodName) (cc : ByteArray) (nL : Nat) (rt : Option FieldType) (h : Nat) (as : List mV) (S : mS) (Qp : Option mV → mS → Prop) : Prop :=
  Met g.1 y (ws_ y cc nL rt) { frames := h, cells := 0, slots := 0, locals := 64 * h } (mPc g as S) (mQ g Qp) 0 0 (mA g)
def mI (S : mS) : Prop := ∀ k j, -2147483648 ≤ S k j ∧ S k j ≤ 2147483647
def mcs (st : List mV) : Nat := (st.map mcat).sum
def mcall (g : mG) (h : Nat) (S : mS) (st : List mV) (idx : Nat) (nx : List mV → mS → Prop) (virt : Bool) : Prop :=
  match mfind mcalL idx with
  | some (y, cc, nL, rt, n, sta, h') => (match sta, virt with
    | true, false => h' < h ∧ mcs (st.drop n) ≤ 8 ∧ n ≤ st.length ∧ CM g y cc nL rt h' (st.take n).reverse S (fun r S' => mI S' → (∀ v, r = some v → mok v) → nx (r.toList ++ st.drop n) S')
    | false, true => h' < h ∧ mcs (st.drop (n + 1)) ≤ 8 ∧ st[n]? = some mt ∧ CM g y cc nL rt h' (mt :: (st.take n).reverse) S (fun r S' => mI S' → (∀ v, r = some v → mok v) → nx (r.toList ++ st.drop (n + 1)) S')
    | _, _ => False)
  | none => False
def mstep (g : mG) (rt : Option FieldType) (h : Nat) (Qp : Option mV → mS → Prop) (ins : Instr) (len pc : Nat) (L : mL) (st : List mV) (S : mS) (nx : Nat → mL → List mV → mS → Prop) : Prop :=
  match ins with
  | .invokevirtual idx => mcall g h S st idx (fun st' S' => nx (pc + 3) L st' S') true
  | .invokestatic idx => mcall g h S st idx (fun st' S' => nx (pc + 3) L st' S') false
  | _ => mvc1 rt h Qp ins len pc L st S nx
/-- the instructions from pc on, as far as cuts: there I holds -/
def mvc (g : mG) (prog : List (Nat × Instr × Nat)) (cuts : List Nat) (rt : Option FieldType) (h : Nat) (Qp : Option mV → mS → Prop) (I : Nat → mL → List mV → mS → Prop) : Nat → Nat → mL → List mV → mS → Prop
  | 0, _, _, _, _ => False
  | n + 1, pc, L, st, S => match mfind prog pc with
    | none => False
    | some (ins, len) => mstep g rt h Qp ins len pc L st S (fun pc' L' st' S' => if cuts.elem pc' = true then I pc' L' st' S' else mvc g prog cuts rt h Qp I n pc' L' st' S')
def mlenOK : Instr → Nat → Bool
  | .tableswitch .., _ => true
  | .lookupswitch _ ps, _ => (ps.toList.zip (ps.toList.drop 1)).all (fun (a, next) => a.1 < next.1)
  | .bipush z, n => n == 2 && (decide (-128 ≤ z) && decide (z ≤ 127))
  | .sipush z, n => n == 3 && (decide (-32768 ≤ z) && decide (z ≤ 32767))
  | .iconst z, n => n == 1 && (decide (-128 ≤ z) && decide (z ≤ 127))
  | .iinc _ _, n => n == 3
  | .ldc _, n => n == 2
  | .ldc_w _, n => n == 3
  | .ldc2_w _, n => n == 3
  | .iload _, n => n == 2
  | .lload _, n => n == 2
  | .istore _, n => n == 2
  | .lstore _, n => n == 2
  | .ifCond _ _, n => n == 3
  | .if_icmp _ _, n => n == 3
  | .goto _, n => n == 3
  | .getfield _, n => n == 3
  | .putfield _, n => n == 3
  | .invokevirtual _, n => n == 3
  | .invokestatic _, n => n == 3
  | _, n => n == 1
section MSound
variable {p : Program} {l : Launch} {e : Env} {R : Room} {s : State} {m : MethodId} {args : Array Value} {below : List Frame} {meth : Method} {c : Code} {g : mG} {cc : ByteArray} {nL h : Nat} {rt : Option FieldType} {Qp : Option mV → mS → Prop}
def mLH (g : mG) (nL : Nat) (L : mL) (ls : Array Slot) : Prop := L.length = nL ∧ ls.size = nL ∧ lv_wf ls ∧ ∀ (i : Nat) (v : mV), L[i]? = some (some v) → ls[i]? = some (.val (mv g v)) ∧ mok v
def WM (p : Program) (l : Launch) (e : Env) (R : Room) (s : State) (m : MethodId) (args : Array Value) (below : List Frame) (meth : Method) (c : Code) (g : mG) (nL : Nat) (Qp : Option mV → mS → Prop) (pc : Nat) (L : mL) (st : List mV) (S : mS) : Prop :=
  ∀ (H : Heap) (locs : List Loc) (ls : Array Slot), mP g S H → va_S (mA g) s.heap H locs → mLH g nL L ls → (∀ v ∈ st, mok v) →
    W p l e R s m args below meth c H locs 0 0 (MQ below (mQ g Qp) args s 0 0 (mA g)) (F0 m pc ls (st.map (mv g)))
def mX (p : Program) (R : Room) (s : State) (m : MethodId) (args : Array Value) (meth : Method) (c : Code) (g : mG) (cc : ByteArray) (nL h : Nat) (rt : Option FieldType) : Prop :=
  p.tables.exec = Jvm.exec ∧ c.code = cc ∧ c.maxLocals = nL ∧ meth.sig.returnType = rt ∧ meth.locks = false ∧ s.vm.findClass RX6 = some m.cls ∧ (∀ w ∈ lw_all, w.before args s = true) ∧ mK g s ∧ mD g ∧ h ≤ R.frames ∧ 64 * h ≤ R.locals
def mla (g : mG) (L : mL) : List (Nat × Value) := (List.range L.length).filterMap (fun i => match L[i]? with
  | some (some v) => some (i, mv g v)
  | _ => none)
theorem mla_mem {g : mG} {L : mL} {q : Nat × Value} : q ∈ mla g L ↔ ∃ i v, L[i]? = some (some v) ∧ q = (i, mv g v) := by
  unfold mla
  rw [List.mem_filterMap]
  constructor
  · rintro ⟨i, -, h⟩
    split at h
    · rename_i v hv
      exact ⟨i, v, hv, (Option.some.inj h).symm⟩
    · cases h
  · rintro ⟨i, v, h, rfl⟩
    refine ⟨i, List.mem_range.mpr (List.getElem?_eq_some_iff.mp h).1, ?_⟩
    rw [h]
theorem mLH.has {L : mL} {ls : Array Slot} (H : mLH g nL L ls) : lv_has ls nL (mla g L) := by
  refine ⟨H.2.1, H.2.2.1, fun q hq => ?_⟩
  obtain ⟨i, v, h1, rfl⟩ := mla_mem.mp hq
  exact (H.2.2.2 i v h1).1
theorem mclr_len (L : mL) (i : Nat) : (mclr L i).length = L.length := by
  unfold mclr
  split
  · rfl
  · split
    · simp
    · rfl
theorem mclr_get {L : mL} {i j : Nat} {w : mV} (hq : (mclr L i)[j]? = some (some w)) : L[j]? = some (some w) ∧ ¬ (j + 1 = i ∧ mcat w = 2) := by
  cases i with
  | zero => exact ⟨hq, fun z => by omega⟩
  | succ i =>
    unfold mclr at hq
    dsimp only at hq
    split at hq
    · rename_i z hz
      by_cases hj : j = i
      · subst hj
        have hl : j < L.length := (List.getElem?_eq_some_iff.mp hz).1
        rw [List.getElem?_set_self hl] at hq
        cases hq
      · rw [List.getElem?_set_ne (by omega)] at hq
        exact ⟨hq, fun z => hj (by omega)⟩
    · rename_i hz
      refine ⟨hq, fun z => ?_⟩
      obtain ⟨z1, z2⟩ := z
      have : j = i := by omega
      subst this
      rcases w with w | w | w
      · cases z2
      · exact hz w hq
      · cases z2
theorem mLH.st1 {L : mL} {ls ls' : Array Slot} {i : Nat} {v : mV} (H : mLH g nL L ls) (hi : i < L.length) (hv : mok v)
    (h' : lv_has ls' nL ((i, mv g v) :: (mla g L).filter (fun q => !(q.1 == i) && !(q.1 + 1 == i && q.2.category == 2)))) : mLH g nL (mst1 L i v) ls' := by
  refine ⟨by unfold mst1; rw [List.length_set, mclr_len, H.1], h'.1, h'.2.1, fun j w hw => ?_⟩
  unfold mst1 at hw
  by_cases hj : j = i
  · subst hj
    rw [List.getElem?_set_self (by rw [mclr_len]; exact hi)] at hw
    obtain rfl : v = w := Option.some.inj (Option.some.inj hw)
    exact ⟨h'.2.2 _ List.mem_cons_self, hv⟩
  · rw [List.getElem?_set_ne (fun z => hj z.symm)] at hw
    obtain ⟨h1, h2⟩ := mclr_get hw
    refine ⟨h'.2.2 (j, mv g w) (List.mem_cons_of_mem _ (List.mem_filter.mpr ⟨mla_mem.mpr ⟨j, w, h1, rfl⟩, ?_⟩)), (H.2.2.2 j w h1).2⟩
    have h3 : ¬ (j + 1 = i ∧ (mv g w).category = 2) := by rw [mcat_ok]; exact h2
    simp [hj]
    exact Decidable.not_and_iff_or_not.mp h3
theorem mLH.st2 {L : mL} {ls ls' : Array Slot} {i : Nat} {v : mV} (H : mLH g nL L ls) (hi : i + 1 < L.length) (hv : mok v)
    (h' : lv_has ls' nL ((i, mv g v) :: (mla g L).filter (fun q => !(q.1 == i) && (!(q.1 == i + 1) && !(q.1 + 1 == i && q.2.category == 2))))) : mLH g nL (mst2 L i v) ls' := by
  refine ⟨by unfold mst2; rw [List.length_set, List.length_set, mclr_len, H.1], h'.1, h'.2.1, fun j w hw => ?_⟩
  unfold mst2 at hw
  by_cases hk : j = i + 1
  · subst hk
    rw [List.getElem?_set_self (by rw [List.length_set, mclr_len]; exact hi)] at hw
    cases hw
  · rw [List.getElem?_set_ne (fun z => hk z.symm)] at hw
    by_cases hj : j = i
    · subst hj
      rw [List.getElem?_set_self (by rw [mclr_len]; omega)] at hw
      obtain rfl : v = w := Option.some.inj (Option.some.inj hw)
      exact ⟨h'.2.2 _ List.mem_cons_self, hv⟩
    · rw [List.getElem?_set_ne (fun z => hj z.symm)] at hw
      obtain ⟨h1, h2⟩ := mclr_get hw
      refine ⟨h'.2.2 (j, mv g w) (List.mem_cons_of_mem _ (List.mem_filter.mpr ⟨mla_mem.mpr ⟨j, w, h1, rfl⟩, ?_⟩)), (H.2.2.2 j w h1).2⟩
      have h3 : ¬ (j + 1 = i ∧ (mv g w).category = 2) := by rw [mcat_ok]; exact h2
      simp [hj, hk]
      exact Decidable.not_and_iff_or_not.mp h3
theorem mgI_ok {L : mL} {i : Nat} {k : Int → Prop} (hk : mgI L i k) : ∃ z, L[i]? = some (some (.inl z)) ∧ k z := by
  unfold mgI at hk
  split at hk
  · rename_i z hz
    exact ⟨z, hz, hk⟩
  · exact hk.elim
theorem mgL_ok {L : mL} {i : Nat} {k : Int → Prop} (hk : mgL L i k) : ∃ z, L[i]? = some (some (.inr (.inl z))) ∧ k z := by
  unfold mgL at hk
  split at hk
  · rename_i z hz
    exact ⟨z, hz, hk⟩
  · exact hk.elim
theorem mgA_ok {L : mL} {i : Nat} {k : Nat → Prop} (hk : mgA L i k) : ∃ z, L[i]? = some (some (.inr (.inr z))) ∧ k z := by
  unfold mgA at hk
  split at hk
  · rename_i z hz
    exact ⟨z, hz, hk⟩
  · exact hk.elim
theorem mmask_ok {b : Int} {k : Int → Prop} (hk : mmask b k) : (b = 65535 ∧ k 65536) ∨ (b = 31 ∧ k 32) ∨ (b = 15 ∧ k 16) ∨ (b = 1 ∧ k 2) := by
  unfold mmask at hk
  split at hk
  · exact Or.inl ⟨rfl, hk⟩
  · exact Or.inr (Or.inl ⟨rfl, hk⟩)
  · exact Or.inr (Or.inr (Or.inl ⟨rfl, hk⟩))
  · exact Or.inr (Or.inr (Or.inr ⟨rfl, hk⟩))
  · exact hk.elim
end MSound

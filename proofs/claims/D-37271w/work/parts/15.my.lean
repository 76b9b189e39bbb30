/-! rows over an abstract P (pc, locals, operands, memory): quick to use -/
def mY (g : mG) (cc : ByteArray) (rt : Option FieldType) (h : Nat) (Qp : Option mV → mS → Prop) (P : Nat → mL → List mV → mS → Prop) : Prop :=
  ∀ (ins : Instr) (len pc : Nat) (L : mL) (st : List mV) (S : mS), decode cc pc = .ok (ins, len) → mlenOK ins len = true → mjmp pc ins = true → mstep g rt h Qp ins len pc L st S P → P pc L st S
section MY
variable {g : mG} {cc : ByteArray} {rt : Option FieldType} {h : Nat} {Qp : Option mV → mS → Prop} {P : Nat → mL → List mV → mS → Prop} {L : mL} {st : List mV} {S : mS}
theorem y_iconst (pc : Nat) (Y : mY g cc rt h Qp P) {i : Int} (hd : decode cc pc = .ok (.iconst i, 1)) (hi : (decide (-128 ≤ i) && decide (i ≤ 127)) = true) (k : P (pc + 1) L (.inl i :: st) S) : P pc L st S := Y _ _ _ _ _ _ hd hi rfl k
theorem y_bipush (pc : Nat) (Y : mY g cc rt h Qp P) {i : Int} (hd : decode cc pc = .ok (.bipush i, 2)) (hi : (decide (-128 ≤ i) && decide (i ≤ 127)) = true) (k : P (pc + 2) L (.inl i :: st) S) : P pc L st S := Y _ _ _ _ _ _ hd hi rfl k
theorem y_sipush (pc : Nat) (Y : mY g cc rt h Qp P) {i : Int} (hd : decode cc pc = .ok (.sipush i, 3)) (hi : (decide (-32768 ≤ i) && decide (i ≤ 32767)) = true) (k : P (pc + 3) L (.inl i :: st) S) : P pc L st S := Y _ _ _ _ _ _ hd hi rfl k
theorem y_lconst (pc : Nat) (Y : mY g cc rt h Qp P) {n : Fin 2} {i : Int} (hd : decode cc pc = .ok (.lconst n, 1)) (hi : (n.val : Int) = i) (k : P (pc + 1) L (.inr (.inl i) :: st) S) : P pc L st S := Y _ _ _ _ _ _ hd rfl rfl (show P (pc + 1) L (.inr (.inl (n.val : Int)) :: st) S by rw [hi]; exact k)
theorem y_ldc (pc : Nat) (Y : mY g cc rt h Qp P) {n : Nat} {i : Int} (hd : decode cc pc = .ok (.ldc n, 2)) (hi : mcon n = some i) (k : P (pc + 2) L (.inl i :: st) S) : P pc L st S := Y _ _ _ _ _ _ hd rfl rfl (by show (match mcon n with | some z => P (pc + 2) L (.inl z :: st) S | none => False); rw [hi]; exact k)
theorem y_ldc_w (pc : Nat) (Y : mY g cc rt h Qp P) {n : Nat} {i : Int} (hd : decode cc pc = .ok (.ldc_w n, 3)) (hi : mcon n = some i) (k : P (pc + 3) L (.inl i :: st) S) : P pc L st S := Y _ _ _ _ _ _ hd rfl rfl (by show (match mcon n with | some z => P (pc + 3) L (.inl z :: st) S | none => False); rw [hi]; exact k)
theorem y_ldc2_w (pc : Nat) (Y : mY g cc rt h Qp P) {n : Nat} {i : Int} (hd : decode cc pc = .ok (.ldc2_w n, 3)) (hi : mcoL n = some i) (k : P (pc + 3) L (.inr (.inl i) :: st) S) : P pc L st S := Y _ _ _ _ _ _ hd rfl rfl (by show (match mcoL n with | some z => P (pc + 3) L (.inr (.inl z) :: st) S | none => False); rw [hi]; exact k)
theorem mgI_of {i : Nat} {k : Int → Prop} {z : Int} (hl : L[i]? = some (some (.inl z))) (h : k z) : mgI L i k := by unfold mgI; rw [hl]; exact h
theorem mgL_of {i : Nat} {k : Int → Prop} {z : Int} (hl : L[i]? = some (some (.inr (.inl z)))) (h : k z) : mgL L i k := by unfold mgL; rw [hl]; exact h
theorem mgA_of {i : Nat} {k : Nat → Prop} {z : Nat} (hl : L[i]? = some (some (.inr (.inr z)))) (h : k z) : mgA L i k := by unfold mgA; rw [hl]; exact h
theorem y_iload_n (pc : Nat) (Y : mY g cc rt h Qp P) {n : Fin 4} {z : Int} (hd : decode cc pc = .ok (.iload_n n, 1)) (hl : L[n.val]? = some (some (.inl z))) (k : P (pc + 1) L (.inl z :: st) S) : P pc L st S := Y _ _ _ _ _ _ hd rfl rfl (mgI_of hl k)
theorem y_iload (pc : Nat) (Y : mY g cc rt h Qp P) {n : Nat} {z : Int} (hd : decode cc pc = .ok (.iload n, 2)) (hl : L[n]? = some (some (.inl z))) (k : P (pc + 2) L (.inl z :: st) S) : P pc L st S := Y _ _ _ _ _ _ hd rfl rfl (mgI_of hl k)
theorem y_lload_n (pc : Nat) (Y : mY g cc rt h Qp P) {n : Fin 4} {z : Int} (hd : decode cc pc = .ok (.lload_n n, 1)) (hl : L[n.val]? = some (some (.inr (.inl z)))) (k : P (pc + 1) L (.inr (.inl z) :: st) S) : P pc L st S := Y _ _ _ _ _ _ hd rfl rfl (mgL_of hl k)
theorem y_lload (pc : Nat) (Y : mY g cc rt h Qp P) {n : Nat} {z : Int} (hd : decode cc pc = .ok (.lload n, 2)) (hl : L[n]? = some (some (.inr (.inl z)))) (k : P (pc + 2) L (.inr (.inl z) :: st) S) : P pc L st S := Y _ _ _ _ _ _ hd rfl rfl (mgL_of hl k)
theorem y_aload_n (pc : Nat) (Y : mY g cc rt h Qp P) {n : Fin 4} {z : Nat} (hd : decode cc pc = .ok (.aload_n n, 1)) (hl : L[n.val]? = some (some (.inr (.inr z)))) (k : P (pc + 1) L (.inr (.inr z) :: st) S) : P pc L st S := Y _ _ _ _ _ _ hd rfl rfl (mgA_of hl k)
theorem y_istore_n (pc : Nat) (Y : mY g cc rt h Qp P) {n : Fin 4} {z : Int} (L' : mL) (hd : decode cc pc = .ok (.istore_n n, 1)) (hn : Nat.ble (n.val + 1) L.length = true) (hl : mst1 L n.val (.inl z) = L') (k : P (pc + 1) L' st S) : P pc L (.inl z :: st) S := Y _ _ _ _ _ _ hd rfl rfl ⟨Nat.le_of_ble_eq_true hn, hl ▸ k⟩
theorem y_istore (pc : Nat) (Y : mY g cc rt h Qp P) {n : Nat} {z : Int} (L' : mL) (hd : decode cc pc = .ok (.istore n, 2)) (hn : Nat.ble (n + 1) L.length = true) (hl : mst1 L n (.inl z) = L') (k : P (pc + 2) L' st S) : P pc L (.inl z :: st) S := Y _ _ _ _ _ _ hd rfl rfl ⟨Nat.le_of_ble_eq_true hn, hl ▸ k⟩
theorem y_lstore_n (pc : Nat) (Y : mY g cc rt h Qp P) {n : Fin 4} {z : Int} (L' : mL) (hd : decode cc pc = .ok (.lstore_n n, 1)) (hn : Nat.ble (n.val + 2) L.length = true) (hl : mst2 L n.val (.inr (.inl z)) = L') (k : P (pc + 1) L' st S) : P pc L (.inr (.inl z) :: st) S := Y _ _ _ _ _ _ hd rfl rfl ⟨Nat.le_of_ble_eq_true hn, hl ▸ k⟩
theorem y_lstore (pc : Nat) (Y : mY g cc rt h Qp P) {n : Nat} {z : Int} (L' : mL) (hd : decode cc pc = .ok (.lstore n, 2)) (hn : Nat.ble (n + 2) L.length = true) (hl : mst2 L n (.inr (.inl z)) = L') (k : P (pc + 2) L' st S) : P pc L (.inr (.inl z) :: st) S := Y _ _ _ _ _ _ hd rfl rfl ⟨Nat.le_of_ble_eq_true hn, hl ▸ k⟩
theorem y_iinc (pc : Nat) (Y : mY g cc rt h Qp P) {n : Nat} {c z : Int} (L' : mL) (hd : decode cc pc = .ok (.iinc n c, 3)) (hz : L[n]? = some (some (.inl z))) (hl : L.set n (some (.inl (z + c))) = L') (o : -2147483648 ≤ z + c ∧ z + c ≤ 2147483647) (k : P (pc + 3) L' st S) : P pc L st S := Y _ _ _ _ _ _ hd rfl rfl (mgI_of hz ⟨o, hl ▸ k⟩)
theorem y_iadd (pc : Nat) (Y : mY g cc rt h Qp P) {a b : Int} (hd : decode cc pc = .ok (.iadd, 1)) (o : -2147483648 ≤ a + b ∧ a + b ≤ 2147483647) (k : P (pc + 1) L (.inl (a + b) :: st) S) : P pc L (.inl b :: .inl a :: st) S := Y _ _ _ _ _ _ hd rfl rfl ⟨o, k⟩
theorem y_isub (pc : Nat) (Y : mY g cc rt h Qp P) {a b : Int} (hd : decode cc pc = .ok (.isub, 1)) (o : -2147483648 ≤ a - b ∧ a - b ≤ 2147483647) (k : P (pc + 1) L (.inl (a - b) :: st) S) : P pc L (.inl b :: .inl a :: st) S := Y _ _ _ _ _ _ hd rfl rfl ⟨o, k⟩
theorem y_imul (pc : Nat) (Y : mY g cc rt h Qp P) {a b : Int} (hd : decode cc pc = .ok (.imul, 1)) (o : -2147483648 ≤ a * b ∧ a * b ≤ 2147483647) (k : P (pc + 1) L (.inl (a * b) :: st) S) : P pc L (.inl b :: .inl a :: st) S := Y _ _ _ _ _ _ hd rfl rfl ⟨o, k⟩
theorem y_ladd (pc : Nat) (Y : mY g cc rt h Qp P) {a b : Int} (hd : decode cc pc = .ok (.ladd, 1)) (o : -9223372036854775808 ≤ a + b ∧ a + b ≤ 9223372036854775807) (k : P (pc + 1) L (.inr (.inl (a + b)) :: st) S) : P pc L (.inr (.inl b) :: .inr (.inl a) :: st) S := Y _ _ _ _ _ _ hd rfl rfl ⟨o, k⟩
theorem y_lsub (pc : Nat) (Y : mY g cc rt h Qp P) {a b : Int} (hd : decode cc pc = .ok (.lsub, 1)) (o : -9223372036854775808 ≤ a - b ∧ a - b ≤ 9223372036854775807) (k : P (pc + 1) L (.inr (.inl (a - b)) :: st) S) : P pc L (.inr (.inl b) :: .inr (.inl a) :: st) S := Y _ _ _ _ _ _ hd rfl rfl ⟨o, k⟩
theorem y_lmul (pc : Nat) (Y : mY g cc rt h Qp P) {a b : Int} (hd : decode cc pc = .ok (.lmul, 1)) (o : -9223372036854775808 ≤ a * b ∧ a * b ≤ 9223372036854775807) (k : P (pc + 1) L (.inr (.inl (a * b)) :: st) S) : P pc L (.inr (.inl b) :: .inr (.inl a) :: st) S := Y _ _ _ _ _ _ hd rfl rfl ⟨o, k⟩
theorem y_ineg (pc : Nat) (Y : mY g cc rt h Qp P) {a : Int} (hd : decode cc pc = .ok (.ineg, 1)) (o : -2147483648 ≤ -a ∧ -a ≤ 2147483647) (k : P (pc + 1) L (.inl (-a) :: st) S) : P pc L (.inl a :: st) S := Y _ _ _ _ _ _ hd rfl rfl ⟨o, k⟩
theorem y_idiv (pc : Nat) (Y : mY g cc rt h Qp P) {a b : Int} (hd : decode cc pc = .ok (.idiv, 1)) (o1 : 0 ≤ a) (o2 : 0 < b) (k : P (pc + 1) L (.inl (a / b) :: st) S) : P pc L (.inl b :: .inl a :: st) S := Y _ _ _ _ _ _ hd rfl rfl ⟨o1, o2, k⟩
theorem y_irem (pc : Nat) (Y : mY g cc rt h Qp P) {a b : Int} (hd : decode cc pc = .ok (.irem, 1)) (o1 : 0 ≤ a) (o2 : 0 < b) (k : P (pc + 1) L (.inl (a % b) :: st) S) : P pc L (.inl b :: .inl a :: st) S := Y _ _ _ _ _ _ hd rfl rfl ⟨o1, o2, k⟩
theorem y_iand (pc : Nat) (Y : mY g cc rt h Qp P) {a b w : Int} (hd : decode cc pc = .ok (.iand, 1)) (hw : ∀ k : Int → Prop, mmask b k = k w) (k : P (pc + 1) L (.inl (a % w) :: st) S) : P pc L (.inl b :: .inl a :: st) S := Y _ _ _ _ _ _ hd rfl rfl (by show mmask b (fun w => P (pc + 1) L (.inl (a % w) :: st) S); rw [hw]; exact k)
theorem y_land (pc : Nat) (Y : mY g cc rt h Qp P) {a b w : Int} (hd : decode cc pc = .ok (.land, 1)) (hw : ∀ k : Int → Prop, mmask b k = k w) (k : P (pc + 1) L (.inr (.inl (a % w)) :: st) S) : P pc L (.inr (.inl b) :: .inr (.inl a) :: st) S := Y _ _ _ _ _ _ hd rfl rfl (by show mmask b (fun w => P (pc + 1) L (.inr (.inl (a % w)) :: st) S); rw [hw]; exact k)
theorem mm_65535 : ∀ k : Int → Prop, mmask 65535 k = k 65536 := fun _ => rfl
theorem mm_31 : ∀ k : Int → Prop, mmask 31 k = k 32 := fun _ => rfl
theorem mm_15 : ∀ k : Int → Prop, mmask 15 k = k 16 := fun _ => rfl
theorem mm_1 : ∀ k : Int → Prop, mmask 1 k = k 2 := fun _ => rfl
theorem y_ior (pc : Nat) (Y : mY g cc rt h Qp P) {a b : Int} (hd : decode cc pc = .ok (.ior, 1)) (k : P (pc + 1) L (.inl (Int32.ofInt a ||| Int32.ofInt b).toInt :: st) S) : P pc L (.inl b :: .inl a :: st) S := Y _ _ _ _ _ _ hd rfl rfl k
theorem y_ishl (pc : Nat) (Y : mY g cc rt h Qp P) {a b : Int} (w : Int) (hw : (2 : Int) ^ b.toNat = w) (hd : decode cc pc = .ok (.ishl, 1)) (o1 : 0 ≤ a) (o2 : 0 ≤ b) (o3 : b < 32) (o : -2147483648 ≤ a * w ∧ a * w ≤ 2147483647) (k : P (pc + 1) L (.inl (a * w) :: st) S) : P pc L (.inl b :: .inl a :: st) S := by subst hw; exact Y _ _ _ _ _ _ hd rfl rfl ⟨o1, o2, o3, o, k⟩
theorem y_ishr (pc : Nat) (Y : mY g cc rt h Qp P) {a b : Int} (w : Int) (hw : (2 : Int) ^ b.toNat = w) (hd : decode cc pc = .ok (.ishr, 1)) (o2 : 0 ≤ b) (o3 : b < 32) (k : P (pc + 1) L (.inl (a / w) :: st) S) : P pc L (.inl b :: .inl a :: st) S := by subst hw; exact Y _ _ _ _ _ _ hd rfl rfl ⟨o2, o3, k⟩
theorem y_iushr (pc : Nat) (Y : mY g cc rt h Qp P) {a b : Int} (w : Int) (hw : (2 : Int) ^ b.toNat = w) (hd : decode cc pc = .ok (.iushr, 1)) (o1 : 0 ≤ a) (o2 : 0 ≤ b) (o3 : b < 32) (k : P (pc + 1) L (.inl (a / w) :: st) S) : P pc L (.inl b :: .inl a :: st) S := by subst hw; exact Y _ _ _ _ _ _ hd rfl rfl ⟨o1, o2, o3, k⟩
theorem y_lshr (pc : Nat) (Y : mY g cc rt h Qp P) {a b : Int} (w : Int) (hw : (2 : Int) ^ b.toNat = w) (hd : decode cc pc = .ok (.lshr, 1)) (o2 : 0 ≤ b) (o3 : b < 64) (k : P (pc + 1) L (.inr (.inl (a / w)) :: st) S) : P pc L (.inl b :: .inr (.inl a) :: st) S := by subst hw; exact Y _ _ _ _ _ _ hd rfl rfl ⟨o2, o3, k⟩
theorem y_i2l (pc : Nat) (Y : mY g cc rt h Qp P) {a : Int} (hd : decode cc pc = .ok (.i2l, 1)) (k : P (pc + 1) L (.inr (.inl a) :: st) S) : P pc L (.inl a :: st) S := Y _ _ _ _ _ _ hd rfl rfl k
theorem y_l2i (pc : Nat) (Y : mY g cc rt h Qp P) {a : Int} (hd : decode cc pc = .ok (.l2i, 1)) (o : -2147483648 ≤ a ∧ a ≤ 2147483647) (k : P (pc + 1) L (.inl a :: st) S) : P pc L (.inr (.inl a) :: st) S := Y _ _ _ _ _ _ hd rfl rfl ⟨o, k⟩
theorem y_lcmp (pc : Nat) (Y : mY g cc rt h Qp P) {a b : Int} (hd : decode cc pc = .ok (.lcmp, 1)) (k1 : a < b → P (pc + 1) L (.inl (-1) :: st) S) (k2 : a = b → P (pc + 1) L (.inl 0 :: st) S) (k3 : b < a → P (pc + 1) L (.inl 1 :: st) S) : P pc L (.inr (.inl b) :: .inr (.inl a) :: st) S := Y _ _ _ _ _ _ hd rfl rfl ⟨k1, k2, k3⟩
theorem y_dup (pc : Nat) (Y : mY g cc rt h Qp P) {v : mV} (hd : decode cc pc = .ok (.dup, 1)) (hv : mcat v = 1) (k : P (pc + 1) L (v :: v :: st) S) : P pc L (v :: st) S := Y _ _ _ _ _ _ hd rfl rfl ⟨hv, k⟩
theorem y_dup2 (pc : Nat) (Y : mY g cc rt h Qp P) {v w : mV} (hd : decode cc pc = .ok (.dup2, 1)) (hv : mcat v = 1) (hw : mcat w = 1) (k : P (pc + 1) L (v :: w :: v :: w :: st) S) : P pc L (v :: w :: st) S := Y _ _ _ _ _ _ hd rfl rfl ⟨hv, hw, k⟩
theorem y_pop (pc : Nat) (Y : mY g cc rt h Qp P) {v : mV} (hd : decode cc pc = .ok (.pop, 1)) (hv : mcat v = 1) (k : P (pc + 1) L st S) : P pc L (v :: st) S := Y _ _ _ _ _ _ hd rfl rfl ⟨hv, k⟩
theorem y_if (pc tgt : Nat) (Y : mY g cc rt h Qp P) {c : ClassFile.Cond} {off a : Int} (hd : decode cc pc = .ok (.ifCond c off, 3)) (hj : decide (0 ≤ (pc : Int) + off) = true) (ht : mtgt pc off = tgt) (k1 : mcond c a 0 → P tgt L st S) (k2 : ¬ mcond c a 0 → P (pc + 3) L st S) : P pc L (.inl a :: st) S := Y _ _ _ _ _ _ hd rfl hj ⟨fun q => ht ▸ k1 q, k2⟩
theorem y_icmp (pc tgt : Nat) (Y : mY g cc rt h Qp P) {c : ClassFile.Cond} {off a b : Int} (hd : decode cc pc = .ok (.if_icmp c off, 3)) (hj : decide (0 ≤ (pc : Int) + off) = true) (ht : mtgt pc off = tgt) (k1 : mcond c a b → P tgt L st S) (k2 : ¬ mcond c a b → P (pc + 3) L st S) : P pc L (.inl b :: .inl a :: st) S := Y _ _ _ _ _ _ hd rfl hj ⟨fun q => ht ▸ k1 q, k2⟩
theorem y_goto (pc tgt : Nat) (Y : mY g cc rt h Qp P) {off : Int} (hd : decode cc pc = .ok (.goto off, 3)) (hj : decide (0 ≤ (pc : Int) + off) = true) (ht : mtgt pc off = tgt) (k : P tgt L st S) : P pc L st S := Y _ _ _ _ _ _ hd rfl hj (show P (mtgt pc off) L st S from ht ▸ k)
theorem y_table (pc : Nat) (Y : mY g cc rt h Qp P) {d lo hi x : Int} {os : Array Int} {len : Nat} (hd : decode cc pc = .ok (.tableswitch d lo hi os, len)) (hj : mjmp pc (.tableswitch d lo hi os) = true) (k1 : mtab x (fun o => P (mtgt pc o) L st S) lo os.toList) (k2 : x < lo ∨ hi < x → P (mtgt pc d) L st S) : P pc L (.inl x :: st) S := Y _ _ _ _ _ _ hd rfl hj ⟨k1, k2⟩
theorem y_lookup (pc : Nat) (Y : mY g cc rt h Qp P) {d x : Int} {ps : Array (Int × Int)} {len : Nat} (hd : decode cc pc = .ok (.lookupswitch d ps, len)) (hl : mlenOK (.lookupswitch d ps) len = true) (hj : mjmp pc (.lookupswitch d ps) = true) (k1 : mlook x (fun o => P (mtgt pc o) L st S) d ps.toList) : P pc L (.inl x :: st) S := Y _ _ _ _ _ _ hd hl hj k1
theorem y_geta (pc : Nat) (Y : mY g cc rt h Qp P) {idx : Nat} (f : Nat) (hd : decode cc pc = .ok (.getfield idx, 3)) (hf : mfld idx = some f) (ha : marr f = true) (k : P (pc + 3) L (.inr (.inr f) :: st) S) : P pc L (.inr (.inr 99) :: st) S := Y _ _ _ _ _ _ hd rfl rfl ⟨rfl, by rw [hf]; show (if marr f = true then _ else _); rw [if_pos ha]; exact k⟩
theorem y_getf (pc : Nat) (Y : mY g cc rt h Qp P) {idx : Nat} (f : Nat) (hd : decode cc pc = .ok (.getfield idx, 3)) (hf : mfld idx = some f) (ha : marr f = false) (k : (-2147483648 ≤ S f 0 ∧ S f 0 ≤ 2147483647) → P (pc + 3) L (.inl (S f 0) :: st) S) : P pc L (.inr (.inr 99) :: st) S := Y _ _ _ _ _ _ hd rfl rfl ⟨rfl, by rw [hf]; show (if marr f = true then _ else _); rw [if_neg (by rw [ha]; decide)]; exact k⟩
theorem y_putf (pc : Nat) (Y : mY g cc rt h Qp P) {idx : Nat} (f : Nat) {z : Int} (hd : decode cc pc = .ok (.putfield idx, 3)) (hf : mfld idx = some f) (ha : marr f = false) (hb : mkd f = 3 → z = 0 ∨ z = 1) (k : P (pc + 3) L st (mup S f 0 z)) : P pc L (.inl z :: .inr (.inr 99) :: st) S := Y _ _ _ _ _ _ hd rfl rfl ⟨rfl, by rw [hf]; exact ⟨ha, hb, k⟩⟩
theorem y_iald (pc : Nat) (Y : mY g cc rt h Qp P) {i : Int} {f n : Nat} (hd : decode cc pc = .ok (.iaload, 1)) (hf : mkd f = 1) (hn : mln f = n) (o1 : 0 ≤ i) (o2 : i < n) (k : (-2147483648 ≤ S f i ∧ S f i ≤ 2147483647) → P (pc + 1) L (.inl (S f i) :: st) S) : P pc L (.inl i :: .inr (.inr f) :: st) S := Y _ _ _ _ _ _ hd rfl rfl ⟨hf, o1, by rw [hn]; exact o2, k⟩
theorem y_bald (pc : Nat) (Y : mY g cc rt h Qp P) {i : Int} {f n : Nat} (hd : decode cc pc = .ok (.baload, 1)) (hf : mkd f = 2) (hn : mln f = n) (o1 : 0 ≤ i) (o2 : i < n) (k : (-2147483648 ≤ S f i ∧ S f i ≤ 2147483647) → P (pc + 1) L (.inl (S f i) :: st) S) : P pc L (.inl i :: .inr (.inr f) :: st) S := Y _ _ _ _ _ _ hd rfl rfl ⟨hf, o1, by rw [hn]; exact o2, k⟩
theorem y_iast (pc : Nat) (Y : mY g cc rt h Qp P) {i v : Int} {f n : Nat} (hd : decode cc pc = .ok (.iastore, 1)) (hf : mkd f = 1) (hn : mln f = n) (o1 : 0 ≤ i) (o2 : i < n) (k : P (pc + 1) L st (mup S f i v)) : P pc L (.inl v :: .inl i :: .inr (.inr f) :: st) S := Y _ _ _ _ _ _ hd rfl rfl ⟨hf, o1, by rw [hn]; exact o2, k⟩
theorem y_bast (pc : Nat) (Y : mY g cc rt h Qp P) {i v : Int} {f n : Nat} (hd : decode cc pc = .ok (.bastore, 1)) (hf : mkd f = 2) (hn : mln f = n) (o1 : 0 ≤ i) (o2 : i < n) (o3 : v = 0 ∨ v = 1) (k : P (pc + 1) L st (mup S f i v)) : P pc L (.inl v :: .inl i :: .inr (.inr f) :: st) S := Y _ _ _ _ _ _ hd rfl rfl ⟨hf, o1, by rw [hn]; exact o2, o3, k⟩
theorem y_iret (pc : Nat) (Y : mY g cc rt h Qp P) {z : Int} (hd : decode cc pc = .ok (.ireturn, 1)) (hr : rt = some .int) (k : Qp (some (.inl z)) S) : P pc L [.inl z] S := Y _ _ _ _ _ _ hd rfl rfl ⟨Or.inl hr, k⟩
theorem y_zret (pc : Nat) (Y : mY g cc rt h Qp P) {z : Int} (hd : decode cc pc = .ok (.ireturn, 1)) (hr : rt = some .boolean) (hz : z = 0 ∨ z = 1) (k : Qp (some (.inl z)) S) : P pc L [.inl z] S := Y _ _ _ _ _ _ hd rfl rfl ⟨Or.inr ⟨hr, hz⟩, k⟩
theorem y_ret (pc : Nat) (Y : mY g cc rt h Qp P) (hd : decode cc pc = .ok (.return_, 1)) (hr : rt = none) (k : Qp none S) : P pc L [] S := Y _ _ _ _ _ _ hd rfl rfl ⟨hr, k⟩
theorem y_call (pc : Nat) (Y : mY g cc rt h Qp P) {idx n nl h' : Nat} {y : MethodName} {cb : ByteArray} {r : Option FieldType} {as : List mV} (rest : List mV) {Q : Option mV → mS → Prop} (hd : decode cc pc = .ok (.invokevirtual idx, 3)) (hf : mfind mcalL idx = some (y, cb, nl, r, n, false, h')) (hh : Nat.ble (h' + 1) h = true) (hm : Nat.ble (mcs rest) 8 = true) (hs : st = as.reverse ++ mt :: rest) (hn : as.length = n)
    (hc : CM g y cb nl r h' (mt :: as) S Q) (k : ∀ v S', Q v S' → mI S' → (∀ w, v = some w → mok w) → P (pc + 3) L (v.toList ++ rest) S') : P pc L st S := by
  subst hs; subst hn
  refine Y _ _ _ _ _ _ hd rfl rfl ?_
  show mcall g h S _ idx _ true
  unfold mcall
  rw [hf]
  have e : (as.reverse ++ mt :: rest).drop (as.length + 1) = rest := by
    rw [← List.drop_drop, List.drop_left' (by simp)]; rfl
  refine ⟨Nat.le_of_ble_eq_true hh, by rw [e]; exact Nat.le_of_ble_eq_true hm, ?_, ?_⟩
  · rw [List.getElem?_append_right (by simp)]; simp
  · rw [List.take_left' (by simp), List.reverse_reverse]
    exact hc.mono (fun v S' q1 q2 q3 _ _ => by rw [e]; exact k v S' q1 q2 q3)
theorem y_calls (pc : Nat) (Y : mY g cc rt h Qp P) {idx n nl h' : Nat} {y : MethodName} {cb : ByteArray} {r : Option FieldType} {as : List mV} (rest : List mV) {Q : Option mV → mS → Prop} (hd : decode cc pc = .ok (.invokestatic idx, 3)) (hf : mfind mcalL idx = some (y, cb, nl, r, n, true, h')) (hh : Nat.ble (h' + 1) h = true) (hm : Nat.ble (mcs rest) 8 = true) (hs : st = as.reverse ++ rest) (hn : as.length = n)
    (hc : CM g y cb nl r h' as S Q) (k : ∀ v S', Q v S' → mI S' → (∀ w, v = some w → mok w) → P (pc + 3) L (v.toList ++ rest) S') : P pc L st S := by
  subst hs; subst hn
  refine Y _ _ _ _ _ _ hd rfl rfl ?_
  show mcall g h S _ idx _ false
  unfold mcall
  rw [hf]
  have e : (as.reverse ++ rest).drop as.length = rest := List.drop_left' (by simp)
  refine ⟨Nat.le_of_ble_eq_true hh, by rw [e]; exact Nat.le_of_ble_eq_true hm, by simp, ?_⟩
  rw [List.take_left' (by simp), List.reverse_reverse]
  exact hc.mono (fun v S' q1 q2 q3 _ _ => by rw [e]; exact k v S' q1 q2 q3)
end MY
/-- fewer locals known -/
def mle : mL → mL → Prop
  | [], [] => True
  | none :: a, _ :: b => mle a b
  | some v :: a, w :: b => w = some v ∧ mle a b
  | _, _ => False
theorem mle_ok : ∀ {a b : mL}, mle a b → a.length = b.length ∧ ∀ (i : Nat) (v : mV), a[i]? = some (some v) → b[i]? = some (some v) := by
  intro a
  induction a with
  | nil =>
    intro b h
    cases b with
    | nil => exact ⟨rfl, fun i v q => q⟩
    | cons w b => exact h.elim
  | cons x a ih =>
    intro b h
    cases b with
    | nil => cases x <;> exact h.elim
    | cons w b =>
      cases x with
      | none =>
        obtain ⟨h1, h2⟩ := ih (b := b) h
        refine ⟨by simp [h1], fun i v q => ?_⟩
        cases i with
        | zero => cases q
        | succ i => exact h2 i v q
      | some u =>
        obtain ⟨rfl, h⟩ := h
        obtain ⟨h1, h2⟩ := ih (b := b) h
        refine ⟨by simp [h1], fun i v q => ?_⟩
        cases i with
        | zero => exact q
        | succ i => exact h2 i v q
theorem WM.weak {p : Program} {l : Launch} {e : Env} {R : Room} {s : State} {m : MethodId} {args : Array Value} {below : List Frame} {meth : Method} {c : Code} {g : mG} {nL : Nat} {Qp : Option mV → mS → Prop} {pc : Nat} {L L' : mL} {st : List mV} {S : mS} (h : mle L' L) (hw : WM p l e R s m args below meth c g nL Qp pc L' st S) : WM p l e R s m args below meth c g nL Qp pc L st S := by
  obtain ⟨h1, h2⟩ := mle_ok h
  intro H locs ls hP hS hL hs
  exact hw H locs ls hP hS ⟨h1.trans hL.1, hL.2.1, hL.2.2.1, fun i v q => hL.2.2.2 i v (h2 i v q)⟩ hs
/-- A METHOD, over rows of P -/
theorem cm_y {g : mG} {y : MethodName} {cc : ByteArray} {nL : Nat} {rt : Option FieldType} {h : Nat} {as : List mV} {S : mS} {Qp : Option mV → mS → Prop} (hy : plainName y.cls = true ∧ y.cls = RX6) (hcat : ∀ a ∈ as, mcat a = 1) (hlen : as.length ≤ nL) (I : Nat → Nat → mL → List mV → mS → Prop)
    (h0 : (∀ a ∈ as, mok a) → mI S → ∀ P, mY g cc rt h Qp P → (∀ pc L L' st S', mle L' L → P pc L' st S' → P pc L st S') → (∀ n pc L st S', I n pc L st S' → P pc L st S') → P 0 (mentry nL as) [] S)
    (hc : ∀ (n pc : Nat) (L : mL) (st : List mV) (S' : mS), I n pc L st S' → mI S' → (∀ (i : Nat) (v : mV), L[i]? = some (some v) → mok v) → ∀ P, mY g cc rt h Qp P → (∀ pc L L' st S', mle L' L → P pc L' st S' → P pc L st S') → (∀ n' pc' L' st' S'', n' < n → I n' pc' L' st' S'' → P pc' L' st' S'') → P pc L st S') : CM g y cc nL rt h as S Qp := by
  refine Met.ofW (cc := cc) (maxL := nL) (ret := rt) hy.1 rfl ?_
  intro p e s m args below meth c s₁ B hml hv
  obtain ⟨rfl, hP, hK, hD, hok⟩ := hv
  have hts := atoms_spec (ws := ws_ y cc nL rt) B.pre
  have hts : ∀ w ∈ lw_all, w.before _ s = true := fun w h => hts w (List.mem_cons_of_mem _ h)
  have hown : s.vm.findClass RX6 = some m.cls := by
    have := findClass_of_methodNamed B.named
    rw [hy.2] at this
    exact this
  have X : mX p (headSpec (ws_ y cc nL rt) { frames := h, cells := 0, slots := 0, locals := 64 * h }).room s m (as.map (mv g)).toArray meth c g cc nL h rt := ⟨B.exec, B.bytes, hml, B.returns, B.notSynchronized, hown, hts, hK, hD, Nat.le_refl _, Nat.le_refl _⟩
  have Y : mY g cc rt h Qp (WM p g.1 e (headSpec (ws_ y cc nL rt) { frames := h, cells := 0, slots := 0, locals := 64 * h }).room s m (as.map (mv g)).toArray below meth c g nL Qp) := fun ins len pc L st S hd hl hj hv => mstep_ok X rfl hd hl hj (fun _ _ _ _ q => q) hv
  have hloop : ∀ (n pc : Nat) (L : mL) (st : List mV) (S' : mS), I n pc L st S' → WM p g.1 e (headSpec (ws_ y cc nL rt) { frames := h, cells := 0, slots := 0, locals := 64 * h }).room s m (as.map (mv g)).toArray below meth c g nL Qp pc L st S' := by
    intro n
    induction n using Nat.strongRecOn with
    | _ n ih =>
      intro pc L st S' hI H locs ls hP2 hS2 hL2
      exact hc n pc L st S' hI hP2.2.2 (fun i v q => (hL2.2.2.2 i v q).2) _ Y (fun _ _ _ _ _ => WM.weak) (fun n' pc' L' st' S'' q1 q2 => ih n' q1 pc' L' st' S'' q2) H locs ls hP2 hS2 hL2
  have hw := h0 hok hP.2.2 _ Y (fun _ _ _ _ _ => WM.weak) hloop
  have hsl := m_lgsl (g := g) as hcat
  have hl := lv_entry (as.map (mv g)) (n := nL) (by rw [hsl]; simpa using hlen)
  rw [lg_entry_eq]
  refine hw s.heap [] _ hP va_S.rf ⟨by simp [mentry]; omega, hl.1, hl.2.1, fun i v hv => ?_⟩ (fun v hv => by cases hv)
  have hi : as[i]? = some v := by
    unfold mentry at hv
    by_cases hi : i < as.length
    · rw [List.getElem?_append_left (by simpa using hi), List.getElem?_map] at hv
      cases ha : as[i]? with
      | none => rw [ha] at hv; cases hv
      | some w => rw [ha] at hv; cases hv; rfl
    · rw [List.getElem?_append_right (by simpa using hi)] at hv
      have := List.eq_of_mem_replicate (List.mem_of_getElem? hv)
      cases this
  refine ⟨?_, hok v (List.mem_of_getElem? hi)⟩
  rw [hsl]
  have hil : i < as.length := (List.getElem?_eq_some_iff.mp hi).1
  rw [List.getElem?_toArray, List.getElem?_append_left (by simpa using hil), List.getElem?_map, List.getElem?_map, hi]
  rfl

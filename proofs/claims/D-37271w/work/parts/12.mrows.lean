/-! mvc suffices on the machine: instruction by instruction -/
section MRows
variable {p : Program} {l : Launch} {e : Env} {R : Room} {s : State} {m : MethodId} {args : Array Value} {below : List Frame} {meth : Method} {c : Code} {g : mG} {cc : ByteArray} {nL h : Nat} {rt : Option FieldType} {Qp : Option mV → mS → Prop}
theorem mokc {v : mV} {st : List mV} (h : mok v) (hs : ∀ w ∈ st, mok w) : ∀ w ∈ v :: st, mok w := List.forall_mem_cons.mpr ⟨h, hs⟩
theorem mok1 {v : mV} {st : List mV} (hs : ∀ w ∈ v :: st, mok w) : mok v ∧ ∀ w ∈ st, mok w := List.forall_mem_cons.mp hs
theorem mtgt_ok {pc : Nat} {off : Int} (h : 0 ≤ (pc : Int) + off) : (pc : Int) + off = (mtgt pc off : Int) := by
  unfold mtgt
  rw [Int.toNat_of_nonneg h]
theorem mlh_get {L : mL} {ls : Array Slot} {i : Nat} {v : mV} (H : mLH g nL L ls) (h : L[i]? = some (some v)) : ls[i]? = some (.val (mv g v)) := (H.2.2.2 i v h).1
theorem mlh_ok {L : mL} {ls : Array Slot} {i : Nat} {v : mV} (H : mLH g nL L ls) (h : L[i]? = some (some v)) : mok v := (H.2.2.2 i v h).2
theorem marr_lt {k : Nat} (h : marr k = true) : k < 86 := by
  rcases Nat.lt_or_ge k 86 with q | q
  · exact q
  · exfalso
    have : mkd k = 0 := by
      unfold mkd
      split
      all_goals first | omega | (rw [if_neg (by omega)])
    simp [marr, this] at h
theorem mP.field {S : mS} {H : Heap} (hK : mK g s) (hP : mP g S H) {k : Nat} (hk : k < 86) (hts : ∀ w ∈ lw_all, w.before args s = true) : ∃ (cf : ClassId) (kf : Class) (fi : Nat) (f : Field) (cell : Cell), s.fieldFound? (TX6 k).1 (TX6 k).2.1 (TX6 k).2.2.1 = some (cf, kf, fi, f) ∧ f.isStatic = false ∧ H[g.2.1 99]? = some cell ∧ cell.vm = .none ∧ cell.cls = g.2.2.1 ∧ cell.slots[f.slot]? = some (mfv g S k) ∧ f.slot = g.2.2.2.1 k ∧ ∀ j, j < 86 → cell.slots[g.2.2.2.1 j]? = some (mfv g S j) := by
  obtain ⟨⟨cell, q1, q2, q3, q4⟩, -, -⟩ := hP
  obtain ⟨⟨hS, hfc, kC, hkC, hkind⟩, -, -⟩ := hK
  obtain ⟨cf, kf, fi, f, hi, hsl⟩ := hS k hk
  refine ⟨cf, kf, fi, f, cell, hi, (u_facts hfc hkC (u_lays hts in_X6 hk) hi).1, q1, q3, q2, ?_, hsl, q4⟩
  rw [hsl]
  exact q4 k hk
theorem mP.of {S S' : mS} {H H1 : Heap} (hD : mD g) (hP : mP g S H) {k : Nat} (hk : marr k = true) {i : Int} {v : Int} (h0 : 0 ≤ i) (h1 : i < mln k) (hv : i32 v) (hS' : S' = mup S k i v)
    (e : H1[g.2.1 k]? = some ((arrV (mcl g k) (mln k) (fun j => .int (Int32.ofInt (S k (j : Nat))))).setSlot i.toNat (.int (Int32.ofInt v)))) (oq : ∀ q, q ≠ g.2.1 k → H1[q]? = H[q]?) : mP g S' H1 := by
  subst hS'
  obtain ⟨hO, hA, hI⟩ := hP
  refine ⟨?_, fun j hj => ?_, fun a b => ?_⟩
  · have hne : g.2.1 99 ≠ g.2.1 k := fun z => by
      have := hD 99 k rfl (by simp [mrf, hk]) z
      subst this
      exact absurd hk (by decide)
    refine (hO.kept (oq _ hne)).to (fun a ha => ?_)
    unfold mfv
    split
    · rfl
    · rename_i hna
      rw [mup_ne (fun z => by subst z; exact hna hk)]
  · by_cases hjk : j = k
    · subst hjk
      rw [e, arrV_store]
      congr 2
      funext q
      by_cases hq : q = i.toNat
      · subst hq
        simp only [updV, if_pos]
        rw [Int.toNat_of_nonneg h0, mup_eq]
      · have hne : ((q : Nat) : Int) ≠ i := fun z => hq (by omega)
        simp only [updV, if_neg hq]
        rw [mup_nj hne]
    · have hne : g.2.1 j ≠ g.2.1 k := fun z => hjk (hD j k (by simp [mrf, hj]) (by simp [mrf, hk]) z)
      rw [oq _ hne, hA j hj]
      congr 2
      funext q
      rw [mup_ne hjk]
  · unfold mup
    split
    · exact hv
    · exact hI a b
theorem mfin (k : Nat) (hk : k < 86) : (marr k = false → (TX6 k).2.2.2 = false) ∧ (marr k = false → tyX6 k = .int ∨ (tyX6 k = .boolean ∧ mkd k = 3)) := by
  obtain ⟨h1, h2, h3⟩ := mfin0 k hk
  refine ⟨fun ha => ?_, fun ha => ?_⟩
  · rcases h3 with q | q | q | q
    · exact (h1 q).1
    · simp [marr, q] at ha
    · simp [marr, q] at ha
    · exact (h2 q).1
  · rcases h3 with q | q | q | q
    · exact Or.inl (h1 q).2
    · simp [marr, q] at ha
    · simp [marr, q] at ha
    · exact Or.inr ⟨(h2 q).2, q⟩
theorem m_apart (hSl : ∀ k, k < 86 → SlotIs s (TX6 k).1 (TX6 k).2.1 (TX6 k).2.2.1 (g.2.2.2.1 k)) (hts : ∀ w ∈ lw_all, w.before args s = true) : ∀ x y, x < 86 → y < 86 → x ≠ y → g.2.2.2.1 x ≠ g.2.2.2.1 y := by
  intro x y hx hy hne
  obtain ⟨_, _, _, fa, hia, ea⟩ := hSl x hx
  obtain ⟨_, _, _, fb, hib, eb⟩ := hSl y hy
  rw [← ea, ← eb]
  refine u_apart (u_lays hts in_X6 hx) (u_lays hts in_X6 hy) hia hib ?_
  rw [(State.fieldFound?_type hia (tyX6_ok x hx)).1, (State.fieldFound?_type hib (tyX6_ok y hy)).1]
  exact nmX6 x hx y hy hne
theorem WM_getf (X : mX p R s m args meth c g cc nL h rt) {pc idx k : Nat} {L : mL} {st : List mV} {S : mS} (hd : decode cc pc = .ok (.getfield idx, 3)) (hf : mfld idx = some k)
    (kk : WM p l e R s m args below meth c g nL Qp (pc + 3) L ((if marr k then .inr (.inr k) else .inl (S k 0)) :: st) S) : WM p l e R s m args below meth c g nL Qp pc L (.inr (.inr 99) :: st) S := by
  obtain ⟨hx, hb, hml, hr, hlk, hown, hts, hK, hD, hR1, hR2⟩ := X
  intro H locs ls hP hS hL hs
  obtain ⟨hk, hlink⟩ := mfldL_ok _ (mfind_mem hf)
  obtain ⟨cf, kf, fi, f, cell, hi, hst, hc, hvm, hcl, hslot, -, -⟩ := hP.field (args := args) hK hk hts
  refine W.getf hx hb hown (hts _ hlink) hi hst hc (by rw [hvm]; exact fun z => by cases z) hslot rfl rfl hd ?_
  have h1 : mfv g S k = mv g (if marr k then .inr (.inr k) else .inl (S k 0)) := by
    unfold mfv
    split <;> rfl
  rw [h1]
  refine kk H locs ls hP hS hL (mokc ?_ (mok1 hs).2)
  split
  · trivial
  · exact hP.2.2 k 0
theorem WM_putf (X : mX p R s m args meth c g cc nL h rt) {pc idx k : Nat} {L : mL} {st : List mV} {S : mS} {z : Int} (hd : decode cc pc = .ok (.putfield idx, 3)) (hf : mfld idx = some k) (ha : marr k = false) (hz : mkd k = 3 → z = 0 ∨ z = 1)
    (kk : WM p l e R s m args below meth c g nL Qp (pc + 3) L st (mup S k 0 z)) : WM p l e R s m args below meth c g nL Qp pc L (.inl z :: .inr (.inr 99) :: st) S := by
  obtain ⟨hx, hb, hml, hr, hlk, hown, hts, hK, hD, hR1, hR2⟩ := X
  intro H locs ls hP hS hL hs
  have hz32 : i32 z := (mok1 hs).1
  obtain ⟨hk, hlink⟩ := mfldL_ok _ (mfind_mem hf)
  obtain ⟨cf, kf, fi, f, cell, hi, hst, hc, hvm, hcl, hslot, hsl, hall⟩ := hP.field (args := args) hK hk hts
  have hfin : (TX6 k).2.2.2 = false := (mfin k hk).1 ha
  have hlay := hts _ (in_X6 _ (u_in_lay hk))
  unfold u_lay at hlay
  rw [if_neg (by rw [hfin]; decide)] at hlay
  obtain ⟨⟨hSl, hfc, kC, hkC, hkind⟩, hK2⟩ := hK
  have hty := tyX6_ok k hk
  have hnar : narrow (tyX6 k) (.int (Int32.ofInt z)) = .int (Int32.ofInt z) ∧ fits (tyX6 k) (.int (Int32.ofInt z)) = true := by
    rcases (mfin k hk).2 ha with q | ⟨q, q3⟩
    · rw [q]; exact ⟨rfl, rfl⟩
    · rw [q]
      rcases hz q3 with rfl | rfl
      · exact ⟨by decide, by decide⟩
      · exact ⟨by decide, by decide⟩
  have hst2 := u_store hfc hkC hkind hlay hi hty hnar.1 hnar.2
  have hap := m_apart (args := args) hSl hts
  refine W.putK hx hb (f := f) ⟨hown, hts _ hlink, ⟨_, _, _, hi⟩, hst⟩ (by rw [hcl]; exact hst2) hc hvm (List.getElem?_eq_some_iff.mp (by rw [← Array.getElem?_toList] at hslot; exact hslot)).1 rfl rfl hd (fun H' e1 e2 e3 => ?_)
  refine kk H' _ ls ⟨?_, fun j hj => ?_, fun a b => ?_⟩ (hS.put e2 e3 ⟨99, rfl, rfl⟩) hL (mok1 (mok1 hs).2).2
  · refine t_OB.to (V := updV (mfv g S) k (.int (Int32.ofInt z))) ⟨_, e1, hcl, hvm, ?_⟩ (fun j hj => ?_)
    · rw [hsl]
      exact t_set hall hap hk _
    · unfold updV
      by_cases hjk : j = k
      · subst hjk
        rw [if_pos rfl]
        unfold mfv
        rw [if_neg (by rw [ha]; decide), mup_eq]
      · rw [if_neg hjk]
        unfold mfv
        split
        · rfl
        · rw [mup_ne hjk]
  · have hne : g.2.1 j ≠ g.2.1 99 := fun q => by
      have := hD j 99 (by simp [mrf, hj]) rfl q
      subst this
      exact absurd hj (by decide)
    rw [e3 _ hne, hP.2.1 j hj]
    congr 2
    funext q
    rw [mup_ne (fun z => by subst z; rw [ha] at hj; cases hj)]
  · unfold mup
    split
    · exact hz32
    · exact hP.2.2 a b
theorem mcl_arr (hK : mK g s) {k : Nat} (hk : mkd k = 1 ∨ mkd k = 2) (n : Nat) (z : Nat → Value) : s.isArrayOf (arrV (mcl g k) n z) (if mkd k = 2 then .boolean else .int) := by
  rcases hk with h | h
  · unfold mcl
    rw [if_neg (by omega), if_neg (by omega)]
    exact hK.2.1 n z
  · unfold mcl
    rw [if_pos h, if_pos h]
    exact hK.2.2 n z
theorem WM_ald (X : mX p R s m args meth c g cc nL h rt) {pc k : Nat} {L : mL} {st : List mV} {S : mS} {i : Int} (hd : (mkd k = 1 ∧ decode cc pc = .ok (.iaload, 1)) ∨ (mkd k = 2 ∧ decode cc pc = .ok (.baload, 1))) (h0 : 0 ≤ i) (h1 : i < mln k)
    (kk : i32 (S k i) → WM p l e R s m args below meth c g nL Qp (pc + 1) L (.inl (S k i) :: st) S) : WM p l e R s m args below meth c g nL Qp pc L (.inl i :: .inr (.inr k) :: st) S := by
  obtain ⟨hx, hb, hml, hr, hlk, hown, hts, hK, hD, hR1, hR2⟩ := X
  intro H locs ls hP hS hL hs
  have hi : i32 i := (mok1 hs).1
  have hk : marr k = true := by
    rcases hd with ⟨q, -⟩ | ⟨q, -⟩ <;> simp [marr, q]
  have hlt : i.toNat < mln k := by omega
  have hcell := hP.2.1 k hk
  have hin := i32_in hi h0 h1
  have hv : (arrV (mcl g k) (mln k) (fun j => Value.int (Int32.ofInt (S k (j : Nat))))).slots[(Int32.ofInt i).toNatClampNeg]? = some (mv g (.inl (S k i))) := by
    rw [i32_nat hi, arrV_read _ _ hlt, Int.toNat_of_nonneg h0]
    rfl
  have hg := kk (hP.2.2 k i) H locs ls hP hS hL (mokc (hP.2.2 k i) (mok1 (mok1 hs).2).2)
  rcases hd with ⟨q, hd⟩ | ⟨q, hd⟩
  · have ha := mcl_arr hK (Or.inl q) (mln k) (fun j => Value.int (Int32.ofInt (S k (j : Nat))))
    rw [if_neg (by omega)] at ha
    exact W.iald hx hb hcell ha (fun z => by cases z) (by rw [arrV_size]; exact hin) hv rfl rfl hd hg
  · have ha := mcl_arr hK (Or.inr q) (mln k) (fun j => Value.int (Int32.ofInt (S k (j : Nat))))
    rw [if_pos q] at ha
    exact W.zald hx hb hcell ha (fun z => by cases z) (by rw [arrV_size]; exact hin) hv rfl rfl hd hg
theorem WM_ast (X : mX p R s m args meth c g cc nL h rt) {pc k : Nat} {L : mL} {st : List mV} {S : mS} {i v : Int} (hd : (mkd k = 1 ∧ decode cc pc = .ok (.iastore, 1)) ∨ (mkd k = 2 ∧ (v = 0 ∨ v = 1) ∧ decode cc pc = .ok (.bastore, 1))) (h0 : 0 ≤ i) (h1 : i < mln k)
    (kk : WM p l e R s m args below meth c g nL Qp (pc + 1) L st (mup S k i v)) : WM p l e R s m args below meth c g nL Qp pc L (.inl v :: .inl i :: .inr (.inr k) :: st) S := by
  obtain ⟨hx, hb, hml, hr, hlk, hown, hts, hK, hD, hR1, hR2⟩ := X
  intro H locs ls hP hS hL hs
  have hv : i32 v := (mok1 hs).1
  have hi : i32 i := (mok1 (mok1 hs).2).1
  have hk : marr k = true := by
    rcases hd with ⟨q, -⟩ | ⟨q, -⟩ <;> simp [marr, q]
  have hcell := hP.2.1 k hk
  have hin := i32_in hi h0 h1
  have hst := (mok1 (mok1 (mok1 hs).2).2).2
  have hin2 : mA g (g.2.1 k) := ⟨k, by simp [mrf, hk], rfl⟩
  rcases hd with ⟨q, hd⟩ | ⟨q, hz, hd⟩
  · have ha := mcl_arr hK (Or.inl q) (mln k) (fun j => Value.int (Int32.ofInt (S k (j : Nat))))
    rw [if_neg (by omega)] at ha
    refine W.iast hx hb hcell ha (fun z => by cases z) (by rw [arrV_size]; exact hin) rfl rfl hd (fun H' e1 e2 e3 => ?_)
    rw [i32_nat hi] at e1
    exact kk H' _ ls (hP.of hD hk h0 h1 hv rfl e1 e3) (hS.put e2 e3 hin2) hL hst
  · have ha := mcl_arr hK (Or.inr q) (mln k) (fun j => Value.int (Int32.ofInt (S k (j : Nat))))
    rw [if_pos q] at ha
    refine W.zast hx hb hcell ha (fun z => by cases z) (by rw [arrV_size]; exact hin) rfl rfl hd (fun H' e1 e2 e3 => ?_)
    rw [i32_nat hi] at e1
    have hn : narrow .boolean (.int (Int32.ofInt v)) = .int (Int32.ofInt v) := by
      rcases hz with rfl | rfl
      · decide
      · decide
    rw [hn] at e1
    exact kk H' _ ls (hP.of hD hk h0 h1 hv rfl e1 e3) (hS.put e2 e3 hin2) hL hst
end MRows

/-! mvc suffices: one instruction, a call, a whole method -/
section MVOK
variable {p : Program} {l : Launch} {e : Env} {R : Room} {s : State} {m : MethodId} {args : Array Value} {below : List Frame} {meth : Method} {c : Code} {g : mG} {cc : ByteArray} {nL h : Nat} {rt : Option FieldType} {Qp : Option mV → mS → Prop}
set_option maxHeartbeats 4000000 in
set_option maxRecDepth 100000 in
theorem mvc1_ok (X : mX p R s m args meth c g cc nL h rt) {ins : Instr} {len pc : Nat} {L : mL} {st : List mV} {S : mS} {nx : Nat → mL → List mV → mS → Prop} (hd : decode cc pc = .ok (ins, len)) (hlen : mlenOK ins len = true) (hj : mjmp pc ins = true)
    (hnx : ∀ pc' L' st' S', nx pc' L' st' S' → WM p l e R s m args below meth c g nL Qp pc' L' st' S') (hv : mvc1 rt h Qp ins len pc L st S nx) : WM p l e R s m args below meth c g nL Qp pc L st S := by
  have X0 := X
  obtain ⟨hx, hb, hml, hr, hlk, hown, hts, hK, hD, hR1, hR2⟩ := X
  cases ins
  case iconst i =>
    obtain ⟨h2, h3, h4⟩ : len = 1 ∧ -128 ≤ i ∧ i ≤ 127 := by simpa [mlenOK] using hlen
    subst h2
    intro H locs ls hP hS hL hs
    exact lv_iconst hx hb hd rfl (hnx _ _ _ _ hv H locs ls hP hS hL (mokc (show i32 i by constructor <;> omega) hs))
  case bipush i =>
    obtain ⟨h2, h3, h4⟩ : len = 2 ∧ -128 ≤ i ∧ i ≤ 127 := by simpa [mlenOK] using hlen
    subst h2
    intro H locs ls hP hS hL hs
    exact lv_bipush hx hb hd (i32_byte ⟨h3, h4⟩) (hnx _ _ _ _ hv H locs ls hP hS hL (mokc (show i32 i by constructor <;> omega) hs))
  case sipush i =>
    obtain ⟨h2, h3, h4⟩ : len = 3 ∧ -32768 ≤ i ∧ i ≤ 32767 := by simpa [mlenOK] using hlen
    subst h2
    intro H locs ls hP hS hL hs
    exact lv_sipush hx hb hd (i32_short ⟨h3, h4⟩) (hnx _ _ _ _ hv H locs ls hP hS hL (mokc (show i32 i by constructor <;> omega) hs))
  case lconst n =>
    obtain rfl : len = 1 := eq_of_beq hlen
    intro H locs ls hP hS hL hs
    have hn : (n.val : Int) < 2 := by have := n.isLt; omega
    exact lv_lconst hx hb hd (by show Int64.ofNat _ = Int64.ofInt _; rw [Int64.ofInt_eq_ofNat]) (hnx _ _ _ _ hv H locs ls hP hS hL (mokc (show i64 _ by constructor <;> omega) hs))
  case ldc k =>
    obtain rfl : len = 2 := eq_of_beq hlen
    intro H locs ls hP hS hL hs
    dsimp only [mvc1] at hv
    split at hv
    · rename_i z hz
      obtain ⟨h3, h4⟩ := mconL_ok _ (mfind_mem hz)
      exact lv_ldc hx hb hown (hts _ h4) hd (hnx _ _ _ _ hv H locs ls hP hS hL (mokc (show i32 z from h3) hs))
    · exact False.elim hv
  case ldc_w k =>
    obtain rfl : len = 3 := eq_of_beq hlen
    intro H locs ls hP hS hL hs
    dsimp only [mvc1] at hv
    split at hv
    · rename_i z hz
      obtain ⟨h3, h4⟩ := mconL_ok _ (mfind_mem hz)
      exact lv_ldcw hx hb hown (hts _ h4) hd (hnx _ _ _ _ hv H locs ls hP hS hL (mokc (show i32 z from h3) hs))
    · exact False.elim hv
  case ldc2_w k =>
    obtain rfl : len = 3 := eq_of_beq hlen
    intro H locs ls hP hS hL hs
    dsimp only [mvc1] at hv
    split at hv
    · rename_i z hz
      obtain ⟨h3, h4⟩ := mcoLL_ok _ (mfind_mem hz)
      exact lv_ldc2 hx hb hown (hts _ h4) hd (hnx _ _ _ _ hv H locs ls hP hS hL (mokc (show i64 z from h3) hs))
    · exact False.elim hv
  case iload_n k =>
    obtain rfl : len = 1 := eq_of_beq hlen
    intro H locs ls hP hS hL hs
    obtain ⟨z, hz, hv⟩ := mgI_ok hv
    exact lv_iload_n hx hb hd rfl (mlh_get hL hz) (hnx _ _ _ _ hv H locs ls hP hS hL (mokc (mlh_ok hL hz) hs))
  case iload k =>
    obtain rfl : len = 2 := eq_of_beq hlen
    intro H locs ls hP hS hL hs
    obtain ⟨z, hz, hv⟩ := mgI_ok hv
    exact lv_iload hx hb hd (mlh_get hL hz) (hnx _ _ _ _ hv H locs ls hP hS hL (mokc (mlh_ok hL hz) hs))
  case lload_n k =>
    obtain rfl : len = 1 := eq_of_beq hlen
    intro H locs ls hP hS hL hs
    obtain ⟨z, hz, hv⟩ := mgL_ok hv
    exact lv_lload_n hx hb hd rfl (mlh_get hL hz) (hnx _ _ _ _ hv H locs ls hP hS hL (mokc (mlh_ok hL hz) hs))
  case lload k =>
    obtain rfl : len = 2 := eq_of_beq hlen
    intro H locs ls hP hS hL hs
    obtain ⟨z, hz, hv⟩ := mgL_ok hv
    exact lv_lload hx hb hd (mlh_get hL hz) (hnx _ _ _ _ hv H locs ls hP hS hL (mokc (mlh_ok hL hz) hs))
  case aload_n k =>
    obtain rfl : len = 1 := eq_of_beq hlen
    intro H locs ls hP hS hL hs
    obtain ⟨z, hz, hv⟩ := mgA_ok hv
    exact lv_aload_n hx hb hd rfl (mlh_get hL hz) (hnx _ _ _ _ hv H locs ls hP hS hL (mokc (mlh_ok hL hz) hs))
  case istore_n k =>
    obtain rfl : len = 1 := eq_of_beq hlen
    rcases st with _ | ⟨z | z | z, st⟩ <;> first | exact False.elim hv | skip
    obtain ⟨h2, hv⟩ := hv
    intro H locs ls hP hS hL hs
    exact lv_istore_n hx hb hd rfl hL.has (by rw [← hL.1]; exact h2) rfl (fun ls' hl' => hnx _ _ _ _ hv H locs ls' hP hS (hL.st1 h2 (mok1 hs).1 hl') (mok1 hs).2)
  case istore k =>
    obtain rfl : len = 2 := eq_of_beq hlen
    rcases st with _ | ⟨z | z | z, st⟩ <;> first | exact False.elim hv | skip
    obtain ⟨h2, hv⟩ := hv
    intro H locs ls hP hS hL hs
    exact lv_istore hx hb hd hL.has (by rw [← hL.1]; exact h2) rfl (fun ls' hl' => hnx _ _ _ _ hv H locs ls' hP hS (hL.st1 h2 (mok1 hs).1 hl') (mok1 hs).2)
  case lstore_n k =>
    obtain rfl : len = 1 := eq_of_beq hlen
    rcases st with _ | ⟨z | z | z, st⟩ <;> first | exact False.elim hv | skip
    obtain ⟨h2, hv⟩ := hv
    intro H locs ls hP hS hL hs
    exact lv_lstore_n hx hb hd rfl hL.has (by rw [← hL.1]; exact h2) rfl (fun ls' hl' => hnx _ _ _ _ hv H locs ls' hP hS (hL.st2 h2 (mok1 hs).1 hl') (mok1 hs).2)
  case lstore k =>
    obtain rfl : len = 2 := eq_of_beq hlen
    rcases st with _ | ⟨z | z | z, st⟩ <;> first | exact False.elim hv | skip
    obtain ⟨h2, hv⟩ := hv
    intro H locs ls hP hS hL hs
    exact lv_lstore hx hb hd hL.has (by rw [← hL.1]; exact h2) rfl (fun ls' hl' => hnx _ _ _ _ hv H locs ls' hP hS (hL.st2 h2 (mok1 hs).1 hl') (mok1 hs).2)
  case iinc k n =>
    obtain rfl : len = 3 := eq_of_beq hlen
    intro H locs ls hP hS hL hs
    obtain ⟨z, hz, h2, hv⟩ := mgI_ok hv
    have hk : k < L.length := (List.getElem?_eq_some_iff.mp hz).1
    obtain ⟨j, hj⟩ := List.getElem?_of_mem (mla_mem (g := g).mpr ⟨k, _, hz, rfl⟩)
    refine lv_iinc (v := Int32.ofInt (z + n)) hx hb hd hL.has hj (by rw [Int32.ofInt_add]) (by rw [← hL.1]; exact hk) rfl (fun ls' hl' => ?_)
    refine hnx _ _ _ _ hv H locs ls' hP hS ⟨by rw [List.length_set]; exact hL.1, hl'.1, hl'.2.1, fun i w hw => ?_⟩ hs
    by_cases hi : i = k
    · subst hi
      rw [List.getElem?_set_self hk] at hw
      obtain rfl : _ = w := Option.some.inj (Option.some.inj hw)
      exact ⟨hl'.2.2 _ List.mem_cons_self, h2⟩
    · rw [List.getElem?_set_ne (fun q => hi q.symm)] at hw
      refine ⟨hl'.2.2 (i, mv g w) (List.mem_cons_of_mem _ (List.mem_filter.mpr ⟨mla_mem.mpr ⟨i, w, hw, rfl⟩, ?_⟩)), (hL.2.2.2 i w hw).2⟩
      have h3 : ¬ (i + 1 = k ∧ (mv g w).category = 2) := by
        rintro ⟨q1, q2⟩
        rw [mcat_ok] at q2
        rcases w with w | w | w
        · cases q2
        · have h5 := hL.2.2.1.1 i _ (hL.2.2.2 i _ hw).1 rfl
          have h6 := (hL.2.2.2 k _ hz).1
          rw [q1] at h5
          rw [h5] at h6
          cases h6
        · cases q2
      simp [hi]
      exact Decidable.not_and_iff_or_not.mp h3
  case iadd =>
    obtain rfl : len = 1 := eq_of_beq hlen
    rcases st with _ | ⟨b | b | b, _ | ⟨a | a | a, st⟩⟩ <;> first | exact False.elim hv | skip
    obtain ⟨h2, hv⟩ := hv
    intro H locs ls hP hS hL hs
    exact lv_iadd hx hb hd (by rw [← Int32.ofInt_add]; exact hnx _ _ _ _ hv H locs ls hP hS hL (mokc h2 (mok1 (mok1 hs).2).2))
  case isub =>
    obtain rfl : len = 1 := eq_of_beq hlen
    rcases st with _ | ⟨b | b | b, _ | ⟨a | a | a, st⟩⟩ <;> first | exact False.elim hv | skip
    obtain ⟨h2, hv⟩ := hv
    intro H locs ls hP hS hL hs
    exact lv_isub hx hb hd (by rw [← Int32.ofInt_sub]; exact hnx _ _ _ _ hv H locs ls hP hS hL (mokc h2 (mok1 (mok1 hs).2).2))
  case imul =>
    obtain rfl : len = 1 := eq_of_beq hlen
    rcases st with _ | ⟨b | b | b, _ | ⟨a | a | a, st⟩⟩ <;> first | exact False.elim hv | skip
    obtain ⟨h2, hv⟩ := hv
    intro H locs ls hP hS hL hs
    exact lv_imul hx hb hd (by rw [← Int32.ofInt_mul]; exact hnx _ _ _ _ hv H locs ls hP hS hL (mokc h2 (mok1 (mok1 hs).2).2))
  case ladd =>
    obtain rfl : len = 1 := eq_of_beq hlen
    rcases st with _ | ⟨b | b | b, _ | ⟨a | a | a, st⟩⟩ <;> first | exact False.elim hv | skip
    obtain ⟨h2, hv⟩ := hv
    intro H locs ls hP hS hL hs
    exact lv_ladd hx hb hd (by rw [← Int64.ofInt_add]; exact hnx _ _ _ _ hv H locs ls hP hS hL (mokc h2 (mok1 (mok1 hs).2).2))
  case lsub =>
    obtain rfl : len = 1 := eq_of_beq hlen
    rcases st with _ | ⟨b | b | b, _ | ⟨a | a | a, st⟩⟩ <;> first | exact False.elim hv | skip
    obtain ⟨h2, hv⟩ := hv
    intro H locs ls hP hS hL hs
    exact lv_lsub hx hb hd (by rw [← Int64.ofInt_sub]; exact hnx _ _ _ _ hv H locs ls hP hS hL (mokc h2 (mok1 (mok1 hs).2).2))
  case lmul =>
    obtain rfl : len = 1 := eq_of_beq hlen
    rcases st with _ | ⟨b | b | b, _ | ⟨a | a | a, st⟩⟩ <;> first | exact False.elim hv | skip
    obtain ⟨h2, hv⟩ := hv
    intro H locs ls hP hS hL hs
    exact lv_lmul hx hb hd (by rw [← Int64.ofInt_mul]; exact hnx _ _ _ _ hv H locs ls hP hS hL (mokc h2 (mok1 (mok1 hs).2).2))
  case ineg =>
    obtain rfl : len = 1 := eq_of_beq hlen
    rcases st with _ | ⟨a | a | a, st⟩ <;> first | exact False.elim hv | skip
    obtain ⟨h2, hv⟩ := hv
    intro H locs ls hP hS hL hs
    exact lv_ineg hx hb hd (by rw [← Int32.ofInt_neg]; exact hnx _ _ _ _ hv H locs ls hP hS hL (mokc h2 (mok1 hs).2))
  case idiv =>
    obtain rfl : len = 1 := eq_of_beq hlen
    rcases st with _ | ⟨b | b | b, _ | ⟨a | a | a, st⟩⟩ <;> first | exact False.elim hv | skip
    obtain ⟨h2, h3, hv⟩ := hv
    intro H locs ls hP hS hL hs
    have hb1 : i32 b := (mok1 hs).1
    have ha1 : i32 a := (mok1 (mok1 hs).2).1
    obtain ⟨q1, q2⟩ := ms_div ha1 hb1 h2 h3
    exact lv_idiv hx hb hd (by rw [i32_ne0 hb1]; omega) (by rw [q1]; exact hnx _ _ _ _ hv H locs ls hP hS hL (mokc q2 (mok1 (mok1 hs).2).2))
  case irem =>
    obtain rfl : len = 1 := eq_of_beq hlen
    rcases st with _ | ⟨b | b | b, _ | ⟨a | a | a, st⟩⟩ <;> first | exact False.elim hv | skip
    obtain ⟨h2, h3, hv⟩ := hv
    intro H locs ls hP hS hL hs
    have hb1 : i32 b := (mok1 hs).1
    have ha1 : i32 a := (mok1 (mok1 hs).2).1
    obtain ⟨q1, q2⟩ := ms_rem ha1 hb1 h2 h3
    exact lv_irem hx hb hd (by rw [i32_ne0 hb1]; omega) (by rw [q1]; exact hnx _ _ _ _ hv H locs ls hP hS hL (mokc q2 (mok1 (mok1 hs).2).2))
  case iand =>
    obtain rfl : len = 1 := eq_of_beq hlen
    rcases st with _ | ⟨b | b | b, _ | ⟨a | a | a, st⟩⟩ <;> first | exact False.elim hv | skip
    obtain ⟨w, hw, hv⟩ := mmask_w (show mmask b (fun w => nx (pc + 1) L (.inl (a % w) :: st) S) from hv)
    intro H locs ls hP hS hL hs
    exact lv_iand hx hb hd (by rw [(mask_ok hw).1.1]; exact hnx _ _ _ _ hv H locs ls hP hS hL (mokc (mask_ok hw).1.2 (mok1 (mok1 hs).2).2))
  case land =>
    obtain rfl : len = 1 := eq_of_beq hlen
    rcases st with _ | ⟨b | b | b, _ | ⟨a | a | a, st⟩⟩ <;> first | exact False.elim hv | skip
    obtain ⟨w, hw, hv⟩ := mmask_w (show mmask b (fun w => nx (pc + 1) L (.inr (.inl (a % w)) :: st) S) from hv)
    intro H locs ls hP hS hL hs
    exact lv_land hx hb hd (by rw [(mask_ok hw).2.1]; exact hnx _ _ _ _ hv H locs ls hP hS hL (mokc (mask_ok hw).2.2 (mok1 (mok1 hs).2).2))
  case ior =>
    obtain rfl : len = 1 := eq_of_beq hlen
    rcases st with _ | ⟨b | b | b, _ | ⟨a | a | a, st⟩⟩ <;> first | exact False.elim hv | skip
    intro H locs ls hP hS hL hs
    have q : Int32.ofInt (Int32.ofInt a ||| Int32.ofInt b).toInt = Int32.ofInt a ||| Int32.ofInt b := Int32.ofInt_toInt _
    exact lv_ior hx hb hd (by rw [← q]; exact hnx _ _ _ _ hv H locs ls hP hS hL (mokc (show i32 _ from ⟨by have := Int32.le_toInt (Int32.ofInt a ||| Int32.ofInt b); omega, by have := Int32.toInt_lt (Int32.ofInt a ||| Int32.ofInt b); omega⟩) (mok1 (mok1 hs).2).2))
  case ishl =>
    obtain rfl : len = 1 := eq_of_beq hlen
    rcases st with _ | ⟨b | b | b, _ | ⟨a | a | a, st⟩⟩ <;> first | exact False.elim hv | skip
    obtain ⟨h1, h2, h3, h4, hv⟩ := hv
    intro H locs ls hP hS hL hs
    exact lv_ishl hx hb hd (by rw [ms_shl h1 h2 h3 h4]; exact hnx _ _ _ _ hv H locs ls hP hS hL (mokc h4 (mok1 (mok1 hs).2).2))
  case ishr =>
    obtain rfl : len = 1 := eq_of_beq hlen
    rcases st with _ | ⟨b | b | b, _ | ⟨a | a | a, st⟩⟩ <;> first | exact False.elim hv | skip
    obtain ⟨h2, h3, hv⟩ := hv
    intro H locs ls hP hS hL hs
    have ha1 : i32 a := (mok1 (mok1 hs).2).1
    obtain ⟨q1, q2⟩ := ms_shr ha1 h2 h3
    exact lv_ishr hx hb hd (by rw [q1]; exact hnx _ _ _ _ hv H locs ls hP hS hL (mokc q2 (mok1 (mok1 hs).2).2))
  case iushr =>
    obtain rfl : len = 1 := eq_of_beq hlen
    rcases st with _ | ⟨b | b | b, _ | ⟨a | a | a, st⟩⟩ <;> first | exact False.elim hv | skip
    obtain ⟨h1, h2, h3, hv⟩ := hv
    intro H locs ls hP hS hL hs
    have ha1 : i32 a := (mok1 (mok1 hs).2).1
    obtain ⟨q1, q2⟩ := ms_ushr ha1 h1 h2 h3
    exact lv_iushr hx hb hd q1 (hnx _ _ _ _ hv H locs ls hP hS hL (mokc q2 (mok1 (mok1 hs).2).2))
  case lshr =>
    obtain rfl : len = 1 := eq_of_beq hlen
    rcases st with _ | ⟨b | b | b, _ | ⟨a | a | a, st⟩⟩ <;> first | exact False.elim hv | skip
    obtain ⟨h2, h3, hv⟩ := hv
    intro H locs ls hP hS hL hs
    have ha1 : i64 a := (mok1 (mok1 hs).2).1
    obtain ⟨q1, q2⟩ := ms_shrL ha1 h2 h3
    exact lv_lshr hx hb hd q1 (hnx _ _ _ _ hv H locs ls hP hS hL (mokc q2 (mok1 (mok1 hs).2).2))
  case i2l =>
    obtain rfl : len = 1 := eq_of_beq hlen
    rcases st with _ | ⟨a | a | a, st⟩ <;> first | exact False.elim hv | skip
    intro H locs ls hP hS hL hs
    have ha1 : i32 a := (mok1 hs).1
    exact lv_i2l hx hb hd (i32_toLong ha1) (hnx _ _ _ _ hv H locs ls hP hS hL (mokc (show i64 a from ⟨by have := ha1.1; omega, by have := ha1.2; omega⟩) (mok1 hs).2))
  case l2i =>
    obtain rfl : len = 1 := eq_of_beq hlen
    rcases st with _ | ⟨a | a | a, st⟩ <;> first | exact False.elim hv | skip
    obtain ⟨h2, hv⟩ := hv
    intro H locs ls hP hS hL hs
    exact lv_l2i hx hb hd (i64_toInt h2) (hnx _ _ _ _ hv H locs ls hP hS hL (mokc h2 (mok1 hs).2))
  case lcmp =>
    obtain rfl : len = 1 := eq_of_beq hlen
    rcases st with _ | ⟨b | b | b, _ | ⟨a | a | a, st⟩⟩ <;> first | exact False.elim hv | skip
    intro H locs ls hP hS hL hs
    have hb1 : i64 b := (mok1 hs).1
    have ha1 : i64 a := (mok1 (mok1 hs).2).1
    obtain ⟨h1, h2, h3⟩ := hv
    have hst := (mok1 (mok1 hs).2).2
    refine W.lcmp hx hb hd ?_
    rcases Int.lt_trichotomy a b with q | q | q
    · have e : lg_cmp (Int64.ofInt a) (Int64.ofInt b) = Int32.ofInt (-1) := by
        unfold lg_cmp
        rw [if_neg (by show ¬ Int64.ofInt b < Int64.ofInt a; rw [i64_lt_iff hb1 ha1]; omega), if_neg (by rw [i64_eq_iff ha1 hb1]; omega)]
        decide
      rw [e]
      exact hnx _ _ _ _ (h1 q) H locs ls hP hS hL (mokc (show i32 (-1) from ⟨by decide, by decide⟩) hst)
    · have e : lg_cmp (Int64.ofInt a) (Int64.ofInt b) = Int32.ofInt 0 := by
        unfold lg_cmp
        rw [if_neg (by show ¬ Int64.ofInt b < Int64.ofInt a; rw [i64_lt_iff hb1 ha1]; omega), if_pos (by rw [i64_eq_iff ha1 hb1]; omega)]
        decide
      rw [e]
      exact hnx _ _ _ _ (h2 q) H locs ls hP hS hL (mokc (show i32 0 from ⟨by decide, by decide⟩) hst)
    · have e : lg_cmp (Int64.ofInt a) (Int64.ofInt b) = Int32.ofInt 1 := by
        unfold lg_cmp
        rw [if_pos (by show Int64.ofInt b < Int64.ofInt a; rw [i64_lt_iff hb1 ha1]; omega)]
        decide
      rw [e]
      exact hnx _ _ _ _ (h3 q) H locs ls hP hS hL (mokc (show i32 1 from ⟨by decide, by decide⟩) hst)
  case dup =>
    obtain rfl : len = 1 := eq_of_beq hlen
    rcases st with _ | ⟨v, st⟩ <;> first | exact False.elim hv | skip
    obtain ⟨h2, hv⟩ := hv
    intro H locs ls hP hS hL hs
    exact lv_dup hx hb hd (by rw [mcat_ok]; exact h2) (hnx _ _ _ _ hv H locs ls hP hS hL (mokc (mok1 hs).1 hs))
  case dup2 =>
    obtain rfl : len = 1 := eq_of_beq hlen
    rcases st with _ | ⟨v, _ | ⟨w, st⟩⟩ <;> first | exact False.elim hv | skip
    obtain ⟨h2, h3, hv⟩ := hv
    intro H locs ls hP hS hL hs
    exact lv_dup2_11 hx hb hd (by rw [mcat_ok]; exact h2) (by rw [mcat_ok]; exact h3) (hnx _ _ _ _ hv H locs ls hP hS hL (mokc (mok1 hs).1 (mokc (mok1 (mok1 hs).2).1 hs)))
  case pop =>
    obtain rfl : len = 1 := eq_of_beq hlen
    rcases st with _ | ⟨v, st⟩ <;> first | exact False.elim hv | skip
    obtain ⟨h2, hv⟩ := hv
    intro H locs ls hP hS hL hs
    exact lv_pop hx hb hd (by rw [mcat_ok]; exact h2) (hnx _ _ _ _ hv H locs ls hP hS hL (mok1 hs).2)
  case ifCond cnd off =>
    obtain rfl : len = 3 := eq_of_beq hlen
    rcases st with _ | ⟨a | a | a, st⟩ <;> first | exact False.elim hv | skip
    intro H locs ls hP hS hL hs
    have ha1 : i32 a := (mok1 hs).1
    have hst := (mok1 hs).2
    have ht := mtgt_ok (of_decide_eq_true hj)
    obtain ⟨h1, h2⟩ := hv
    cases cnd
    · exact lv_if_eq hx hb hd ht (fun q => hnx _ _ _ _ (h1 ((i32_ne0 ha1).mp q)) H locs ls hP hS hL hst) (fun q => hnx _ _ _ _ (h2 (fun z => q ((i32_ne0 ha1).mpr z))) H locs ls hP hS hL hst)
    · exact lv_if_ne hx hb hd ht (fun q => hnx _ _ _ _ (h1 (fun z => q ((i32_ne0 ha1).mpr z))) H locs ls hP hS hL hst) (fun q => hnx _ _ _ _ (h2 (fun z => z ((i32_ne0 ha1).mp q))) H locs ls hP hS hL hst)
    · exact lv_if_lt hx hb hd ht (fun q => hnx _ _ _ _ (h1 ((i32_lt0 ha1).mp q)) H locs ls hP hS hL hst) (fun q => hnx _ _ _ _ (h2 (fun z => q ((i32_lt0 ha1).mpr z))) H locs ls hP hS hL hst)
    · exact lv_if_ge hx hb hd ht (fun q => hnx _ _ _ _ (h1 ((i32_0le ha1).mp q)) H locs ls hP hS hL hst) (fun q => hnx _ _ _ _ (h2 (fun z => q ((i32_0le ha1).mpr z))) H locs ls hP hS hL hst)
    · exact lv_if_gt hx hb hd ht (fun q => hnx _ _ _ _ (h1 ((i32_0lt ha1).mp q)) H locs ls hP hS hL hst) (fun q => hnx _ _ _ _ (h2 (fun z => q ((i32_0lt ha1).mpr z))) H locs ls hP hS hL hst)
    · exact lv_if_le hx hb hd ht (fun q => hnx _ _ _ _ (h1 ((i32_le0 ha1).mp q)) H locs ls hP hS hL hst) (fun q => hnx _ _ _ _ (h2 (fun z => q ((i32_le0 ha1).mpr z))) H locs ls hP hS hL hst)
  case if_icmp cnd off =>
    obtain rfl : len = 3 := eq_of_beq hlen
    rcases st with _ | ⟨b | b | b, _ | ⟨a | a | a, st⟩⟩ <;> first | exact False.elim hv | skip
    intro H locs ls hP hS hL hs
    have hb1 : i32 b := (mok1 hs).1
    have ha1 : i32 a := (mok1 (mok1 hs).2).1
    have hst := (mok1 (mok1 hs).2).2
    have ht := mtgt_ok (of_decide_eq_true hj)
    obtain ⟨h1, h2⟩ := hv
    cases cnd
    · exact lv_icmp_eq hx hb hd ht (fun q => hnx _ _ _ _ (h1 ((i32_eq_iff ha1 hb1).mp q)) H locs ls hP hS hL hst) (fun q => hnx _ _ _ _ (h2 (fun z => q ((i32_eq_iff ha1 hb1).mpr z))) H locs ls hP hS hL hst)
    · exact lv_icmp_ne hx hb hd ht (fun q => hnx _ _ _ _ (h1 (fun z => q ((i32_eq_iff ha1 hb1).mpr z))) H locs ls hP hS hL hst) (fun q => hnx _ _ _ _ (h2 (fun z => z ((i32_eq_iff ha1 hb1).mp q))) H locs ls hP hS hL hst)
    · exact lv_icmp_lt hx hb hd ht (fun q => hnx _ _ _ _ (h1 ((i32_lt_iff ha1 hb1).mp q)) H locs ls hP hS hL hst) (fun q => hnx _ _ _ _ (h2 (fun z => q ((i32_lt_iff ha1 hb1).mpr z))) H locs ls hP hS hL hst)
    · exact lv_icmp_ge hx hb hd ht (fun q => hnx _ _ _ _ (h1 ((i32_le_iff hb1 ha1).mp q)) H locs ls hP hS hL hst) (fun q => hnx _ _ _ _ (h2 (fun z => q ((i32_le_iff hb1 ha1).mpr z))) H locs ls hP hS hL hst)
    · exact lv_icmp_gt hx hb hd ht (fun q => hnx _ _ _ _ (h1 ((i32_lt_iff hb1 ha1).mp q)) H locs ls hP hS hL hst) (fun q => hnx _ _ _ _ (h2 (fun z => q ((i32_lt_iff hb1 ha1).mpr z))) H locs ls hP hS hL hst)
    · exact lv_icmp_le hx hb hd ht (fun q => hnx _ _ _ _ (h1 ((i32_le_iff ha1 hb1).mp q)) H locs ls hP hS hL hst) (fun q => hnx _ _ _ _ (h2 (fun z => q ((i32_le_iff ha1 hb1).mpr z))) H locs ls hP hS hL hst)
  case goto off =>
    obtain rfl : len = 3 := eq_of_beq hlen
    intro H locs ls hP hS hL hs
    exact lv_goto hx hb hd (mtgt_ok (of_decide_eq_true hj)) (hnx _ _ _ _ hv H locs ls hP hS hL hs)
  case tableswitch d lo hi os =>
    rcases st with _ | ⟨a | a | a, st⟩ <;> first | exact False.elim hv | skip
    intro H locs ls hP hS hL hs
    have ha1 : i32 a := (mok1 hs).1
    have hst := (mok1 hs).2
    obtain ⟨h1, h2⟩ := hv
    obtain ⟨⟨j1, j2⟩, j3⟩ : ((0 ≤ (pc : Int) + d) ∧ os.toList.all (fun o => decide (0 ≤ (pc : Int) + o)) = true) ∧ hi = lo + os.toList.length - 1 := by
      unfold mjmp at hj
      rw [Bool.and_eq_true, Bool.and_eq_true] at hj
      exact ⟨⟨of_decide_eq_true hj.1.1, hj.1.2⟩, of_decide_eq_true hj.2⟩
    by_cases hq : a < lo ∨ hi < a
    · exact lv_tableOut hx hb hd (by rw [i32_lt ha1]; exact hq) (mtgt_ok j1) (hnx _ _ _ _ (h2 hq) H locs ls hP hS hL hst)
    · obtain ⟨o, ho, hf⟩ := mtab_ok os.toList lo h1 (by omega) (by omega)
      have hpo : 0 ≤ (pc : Int) + o := of_decide_eq_true (List.all_eq_true.mp j2 o (List.mem_of_getElem? ho))
      exact lv_tableIn hx hb hd (by rw [i32_lt ha1]; omega) (by rw [i32_lt ha1]; omega) (by rw [i32_lt ha1, ← Array.getElem?_toList]; exact ho) (mtgt_ok hpo) (hnx _ _ _ _ hf H locs ls hP hS hL hst)
  case lookupswitch d ps =>
    rcases st with _ | ⟨a | a | a, st⟩ <;> first | exact False.elim hv | skip
    intro H locs ls hP hS hL hs
    have ha1 : i32 a := (mok1 hs).1
    have hst := (mok1 hs).2
    have hf := mlook_ok ps.toList hv
    obtain ⟨j1, j2⟩ : (0 ≤ (pc : Int) + d) ∧ ps.toList.all (fun q => decide (0 ≤ (pc : Int) + q.2)) = true := by
      unfold mjmp at hj
      rw [Bool.and_eq_true] at hj
      exact ⟨of_decide_eq_true hj.1, hj.2⟩
    have hpo : 0 ≤ (pc : Int) + Op.lookupswitch.offset ps.toList d a := by
      rcases moff_in (x := a) (d := d) ps.toList with q | ⟨q, q1, q2⟩
      · rw [q]; exact j1
      · rw [q2]; exact of_decide_eq_true (List.all_eq_true.mp j2 q q1)
    exact lv_lookup hx hb hd hlen (by rw [i32_lt ha1]) (mtgt_ok hpo) (hnx _ _ _ _ hf H locs ls hP hS hL hst)
  case getfield idx =>
    obtain rfl : len = 3 := eq_of_beq hlen
    rcases st with _ | ⟨a | a | a, st⟩ <;> first | exact False.elim hv | skip
    obtain ⟨rfl, hv⟩ := hv
    split at hv
    · rename_i k hk
      refine WM_getf X0 hd hk ?_
      split at hv
      · rename_i ha
        rw [if_pos ha]
        exact hnx _ _ _ _ hv
      · rename_i ha
        rw [if_neg ha]
        intro H locs ls hP
        exact hnx _ _ _ _ (hv (hP.2.2 k 0)) H locs ls hP
    · exact False.elim hv
  case putfield idx =>
    obtain rfl : len = 3 := eq_of_beq hlen
    rcases st with _ | ⟨b | b | b, _ | ⟨a | a | a, st⟩⟩ <;> first | exact False.elim hv | skip
    obtain ⟨rfl, hv⟩ := hv
    split at hv
    · rename_i k hk
      obtain ⟨h1, h2, hv⟩ := hv
      exact WM_putf X0 hd hk h1 h2 (hnx _ _ _ _ hv)
    · exact False.elim hv
  case iaload =>
    obtain rfl : len = 1 := eq_of_beq hlen
    rcases st with _ | ⟨b | b | b, _ | ⟨a | a | a, st⟩⟩ <;> first | exact False.elim hv | skip
    obtain ⟨h1, h2, h3, hv⟩ := hv
    exact WM_ald X0 (Or.inl ⟨h1, hd⟩) h2 h3 (fun q => hnx _ _ _ _ (hv q))
  case baload =>
    obtain rfl : len = 1 := eq_of_beq hlen
    rcases st with _ | ⟨b | b | b, _ | ⟨a | a | a, st⟩⟩ <;> first | exact False.elim hv | skip
    obtain ⟨h1, h2, h3, hv⟩ := hv
    exact WM_ald X0 (Or.inr ⟨h1, hd⟩) h2 h3 (fun q => hnx _ _ _ _ (hv q))
  case iastore =>
    obtain rfl : len = 1 := eq_of_beq hlen
    rcases st with _ | ⟨v | v | v, _ | ⟨b | b | b, _ | ⟨a | a | a, st⟩⟩⟩ <;> first | exact False.elim hv | skip
    obtain ⟨h1, h2, h3, hv⟩ := hv
    exact WM_ast X0 (Or.inl ⟨h1, hd⟩) h2 h3 (hnx _ _ _ _ hv)
  case bastore =>
    obtain rfl : len = 1 := eq_of_beq hlen
    rcases st with _ | ⟨v | v | v, _ | ⟨b | b | b, _ | ⟨a | a | a, st⟩⟩⟩ <;> first | exact False.elim hv | skip
    obtain ⟨h1, h2, h3, h4, hv⟩ := hv
    exact WM_ast X0 (Or.inr ⟨h1, h4, hd⟩) h2 h3 (hnx _ _ _ _ hv)
  case ireturn =>
    obtain rfl : len = 1 := eq_of_beq hlen
    rcases st with _ | ⟨z | z | z, _ | ⟨w, st⟩⟩ <;> first | exact False.elim hv | skip
    obtain ⟨h1, h2⟩ := hv
    intro H locs ls hP hS hL hs
    have hq : ∀ t : State, t.heap = H → s.WarmedH t.vm → mQ g Qp args s (.returned (some (.int (Int32.ofInt z)))) t := fun t ht _ => ⟨⟨some (.inl z), S, rfl, by rw [ht]; exact hP, fun v hv => by cases hv; exact (mok1 hs).1, h2⟩, hS.F ht⟩
    rcases h1 with h1 | ⟨h1, h3⟩
    · exact W.iret hx hb (hr.trans h1) hq hS.2.2 hd hlk
    · refine W.zret hx hb (hr.trans h1) ?_ hq hS.2.2 hd hlk
      rcases h3 with rfl | rfl
      · decide
      · decide
  case return_ =>
    obtain rfl : len = 1 := eq_of_beq hlen
    rcases st with _ | ⟨w, st⟩ <;> first | exact False.elim hv | skip
    obtain ⟨h1, h2⟩ := hv
    intro H locs ls hP hS hL hs
    exact W.vret hx hb (hr.trans h1) (fun t ht _ => ⟨⟨none, S, rfl, by rw [ht]; exact hP, fun v hv => (by cases hv), h2⟩, hS.F ht⟩) hS.2.2 hd hlk
  all_goals exact False.elim hv
theorem mPc_blind {as : List mV} {S : mS} : FrameBlind (mPc g as S) := by
  intro a U f mk q
  obtain ⟨q0, q1, q2, q3⟩ := q
  exact ⟨q0, q1, q2.moved (U := U.calling f mk a) (Vm.Alike.refl U.vm), q3⟩
theorem mcs_ok (st : List mV) : ((st.map (mv g)).map fun v => v.category).sum = mcs st := by
  unfold mcs
  rw [List.map_map]
  congr 1
  apply List.map_congr_left
  intro v _
  exact mcat_ok g v
theorem WM_run {S : mS} {st : List mV} {pc n : Nat} {L : mL} {Q2 : Option mV → mS → Prop} (nx : List mV → mS → Prop) {H : Heap} {locs : List Loc} {ls : Array Slot} (hP : mP g S H) (hS : va_S (mA g) s.heap H locs) (hL : mLH g nL L ls) (hs : ∀ w ∈ st, mok w)
    (hnx : ∀ st' S', nx st' S' → WM p l e R s m args below meth c g nL Qp (pc + 3) L st' S')
    (hQ : ∀ r S', Q2 r S' → mI S' → (∀ v, r = some v → mok v) → nx (r.toList ++ st.drop n) S') {av : Array Value}
    (hr : va_Run p l e R s m args below meth c H locs 0 0 0 0 (F0 m pc ls (st.map (mv g))) ((st.drop n).map (mv g)) (mQ g Q2 av) (mA g)) : W p l e R s m args below meth c H locs 0 0 (MQ below (mQ g Qp) args s 0 0 (mA g)) (F0 m pc ls (st.map (mv g))) := by
  intro T hT X
  obtain ⟨v, st₀, t, T', L2, h0, X', hL2, e1, e2, ⟨⟨r, S', hv, hp, hok, hq⟩, hz, hk⟩, sto⟩ := hr T hT X
  obtain rfl : v = r.map (mv g) := by injection hv
  rw [h0] at hz hk
  have hw := hnx _ _ (hQ _ _ hq hp.2.2 hok) T'.heap (locs ++ L2) ls (by rw [e1]; exact hp) ⟨Nat.le_trans hS.1 (by rw [e1]; exact hz), fun q h1 h2 => by rw [e1, hk q (Nat.lt_of_lt_of_le h1 hS.1) h2]; exact hS.2.1 q h1 h2, fun q hq => by
      rcases List.mem_append.mp hq with h | h
      · exact hS.2.2 q h
      · exact hL2 q h⟩ hL (fun w hw => by
      rcases List.mem_append.mp hw with h | h
      · exact hok w (by cases r with
          | none => cases h
          | some x => simp at h; rw [h])
      · exact hs w (List.mem_of_mem_drop h))
  have e3 : (r.toList ++ st.drop n).map (mv g) = (r.map (mv g)).toList ++ (st.drop n).map (mv g) := by
    rw [List.map_append]
    cases r <;> rfl
  rw [e3] at hw
  obtain ⟨t2, a1, b1⟩ := hw T' rfl X'
  exact ⟨t2, sto t2 a1, b1⟩
set_option maxHeartbeats 4000000 in
theorem mcall_ok (X : mX p R s m args meth c g cc nL h rt) (hl : l = g.1) {idx pc : Nat} {L : mL} {st : List mV} {S : mS} {nx : List mV → mS → Prop} {virt : Bool} (hd : decode cc pc = .ok (if virt then .invokevirtual idx else .invokestatic idx, 3))
    (hnx : ∀ st' S', nx st' S' → WM p l e R s m args below meth c g nL Qp (pc + 3) L st' S') (hv : mcall g h S st idx nx virt) : WM p l e R s m args below meth c g nL Qp pc L st S := by
  subst hl
  obtain ⟨hx, hb, hml, hr, hlk, hown, hts, hK, hD, hR1, hR2⟩ := X
  unfold mcall at hv
  split at hv
  · rename_i y cb nl r n sta h' hf
    obtain ⟨⟨o1, o2, o3⟩, o4, o5, o6⟩ := mcalL_ok _ (mfind_mem hf)
    dsimp only at o1 o2 o3 o4 o5 o6
    split at hv
    · obtain ⟨v1, v2, v3, v4⟩ := hv
      rcases o6 with ⟨-, o6⟩ | ⟨o6, -⟩
      · intro H locs ls hP hS hL hs
        refine WM_run nx hP hS hL hs hnx (fun _ _ q => q) (n := n) (av := ((st.take n).reverse.map (mv g)).toArray) ?_
        have hlen : (st.take n).length = n := by rw [List.length_take]; omega
        refine va_runS (As := (st.take n).reverse.map (mv g)) ⟨hx, hb, hml, hown, hts⟩ v4 (va_cwS n hts (lw_S o4 o6 (by rw [o1]; exact mini_ok) o5) rfl rfl rfl ⟨by rw [o1]; decide, by rw [o1]; decide, o2⟩ ⟨by show h' + 1 ≤ _; omega, by show 8 + (nl + 11) + 64 * h' ≤ _; omega⟩) ⟨mPc_blind, fun U hU hW => ⟨rfl, by rw [hU]; exact hP, hK.moved hW.alike, hD, fun a ha => hs a (List.mem_of_mem_take (List.mem_reverse.mp ha))⟩⟩ rfl (by rw [List.length_map, List.length_reverse, hlen]) hL.2.1 (by
            show st.map (mv g) = ((st.take n).reverse.map (mv g)).reverse ++ (st.drop n).map (mv g)
            rw [← List.map_reverse, List.reverse_reverse, ← List.map_append, List.take_append_drop]) (lv_room (by rw [mcs_ok]; exact v2)) hd ⟨Nat.zero_le _, Nat.zero_le _⟩
      · cases o6
    · obtain ⟨v1, v2, v3, v4⟩ := hv
      rcases o6 with ⟨o6, -⟩ | ⟨-, o6, o7⟩
      · cases o6
      · intro H locs ls hP hS hL hs
        refine WM_run nx hP hS hL hs hnx (fun _ _ q => q) (n := n + 1) (av := (Value.ref (g.2.1 99) :: (st.take n).reverse.map (mv g)).toArray) ?_
        have hlen2 : n < st.length := (List.getElem?_eq_some_iff.mp v3).1
        have hlen : (st.take n).length = n := by rw [List.length_take]; omega
        have hst : st = st.take n ++ (mt :: st.drop (n + 1)) := by
          have h1 := List.take_append_drop n st
          rw [List.drop_eq_getElem_cons hlen2, (List.getElem?_eq_some_iff.mp v3).2] at h1
          exact h1.symm
        obtain ⟨cell, c1, c2, c3, -⟩ := hP.1
        refine va_runV (As := (st.take n).reverse.map (mv g)) (b := g.2.1 99) ⟨hx, hb, hml, hown, hts⟩ v4 (cwV n hts (lw_V o4 o6 o7 mini_ok o5) rfl rfl rfl ⟨o1, by rw [o1]; decide, by rw [o1]; decide, o2⟩ ⟨by show h' + 1 ≤ _; omega, by show 8 + (nl + 11) + 64 * h' ≤ _; omega⟩) ⟨mPc_blind, ⟨cell, c1, by rw [c3]; rfl, by rw [c2]; exact hK.1.2.1⟩, fun U hU hW => ⟨rfl, by rw [hU]; exact hP, hK.moved hW.alike, hD, fun a ha => by
            rcases List.mem_cons.mp ha with rfl | ha
            · trivial
            · exact hs a (List.mem_of_mem_take (List.mem_reverse.mp ha))⟩⟩ rfl (by rw [List.length_map, List.length_reverse, hlen]) hL.2.1 (by
            show st.map (mv g) = ((st.take n).reverse.map (mv g)).reverse ++ (.ref (g.2.1 99) :: (st.drop (n + 1)).map (mv g))
            rw [← List.map_reverse, List.reverse_reverse]
            conv => lhs; rw [hst]
            rw [List.map_append]
            rfl) (lv_room (by rw [mcs_ok]; exact v2)) hd ⟨Nat.zero_le _, Nat.zero_le _⟩
    · exact hv.elim
  · exact hv.elim
/-- a program's row is an instruction of the code, and jumps within -/
def mprogOK (cc : ByteArray) (q : Nat × Instr × Nat) : Prop := decode cc q.1 = .ok q.2 ∧ (mlenOK q.2.1 q.2.2 && mjmp q.1 q.2.1) = true
theorem mstep_ok (X : mX p R s m args meth c g cc nL h rt) (hl : l = g.1) {ins : Instr} {len pc : Nat} {L : mL} {st : List mV} {S : mS} {nx : Nat → mL → List mV → mS → Prop} (hd : decode cc pc = .ok (ins, len)) (hlen : mlenOK ins len = true) (hj : mjmp pc ins = true)
    (hnx : ∀ pc' L' st' S', nx pc' L' st' S' → WM p l e R s m args below meth c g nL Qp pc' L' st' S') (hv : mstep g rt h Qp ins len pc L st S nx) : WM p l e R s m args below meth c g nL Qp pc L st S := by
  unfold mstep at hv
  split at hv
  · obtain rfl : len = 3 := eq_of_beq hlen
    exact mcall_ok X hl (virt := true) hd (fun st' S' q => hnx _ _ _ _ q) hv
  · obtain rfl : len = 3 := eq_of_beq hlen
    exact mcall_ok X hl (virt := false) hd (fun st' S' q => hnx _ _ _ _ q) hv
  · exact mvc1_ok X hd hlen hj hnx hv
theorem mvc_ok (X : mX p R s m args meth c g cc nL h rt) (hl : l = g.1) {prog : List (Nat × Instr × Nat)} (hp : ∀ q ∈ prog, mprogOK cc q) {cuts : List Nat} {I : Nat → mL → List mV → mS → Prop} (hI : ∀ pc L st S, I pc L st S → WM p l e R s m args below meth c g nL Qp pc L st S) : ∀ (n pc : Nat) (L : mL) (st : List mV) (S : mS), mvc g prog cuts rt h Qp I n pc L st S → WM p l e R s m args below meth c g nL Qp pc L st S := by
  intro n
  induction n with
  | zero => intro pc L st S hv; exact False.elim hv
  | succ n ih =>
    intro pc L st S hv
    unfold mvc at hv
    split at hv
    · exact False.elim hv
    · rename_i ins len hf
      obtain ⟨hd, hc⟩ := hp _ (mfind_mem hf)
      rw [Bool.and_eq_true] at hc
      refine mstep_ok X hl hd hc.1 hc.2 (fun pc' L' st' S' q => ?_) hv
      split at q
      · exact hI _ _ _ _ q
      · exact ih _ _ _ _ q
end MVOK
theorem m_lgsl {g : mG} : ∀ (as : List mV), (∀ a ∈ as, mcat a = 1) → lg_sl (as.map (mv g)) = (as.map (mv g)).map Slot.val := by
  intro as
  induction as with
  | nil => intro _; rfl
  | cons a as ih =>
    intro hcat
    have h2 := ih (fun b hb => hcat b (List.mem_cons_of_mem _ hb))
    unfold lg_sl at h2 ⊢
    rw [List.map_cons, List.flatMap_cons, if_neg (by rw [mcat_ok, hcat a List.mem_cons_self]; decide), h2]
    rfl
/-- locals at the entry -/
def mentry (nL : Nat) (as : List mV) : mL := as.map some ++ List.replicate (nL - as.length) none
/-- A METHOD: from its start to cuts, from each cut to cuts with less; I n: what holds at a cut, n falls -/
theorem cm_of {g : mG} {y : MethodName} {cc : ByteArray} {nL : Nat} {rt : Option FieldType} {h : Nat} {as : List mV} {S : mS} {Qp : Option mV → mS → Prop} (hy : plainName y.cls = true ∧ y.cls = RX6) (prog : List (Nat × Instr × Nat)) (hp : ∀ q ∈ prog, mprogOK cc q) (hcat : ∀ a ∈ as, mcat a = 1) (hlen : as.length ≤ nL) (cuts : List Nat) (I : Nat → Nat → mL → List mV → mS → Prop) (fuel : Nat)
    (h0 : (∀ a ∈ as, mok a) → mI S → mvc g prog cuts rt h Qp (fun pc L st S' => ∃ n, I n pc L st S') fuel 0 (mentry nL as) [] S)
    (hc : ∀ (n pc : Nat) (L : mL) (st : List mV) (S' : mS), I n pc L st S' → mI S' → (∀ (i : Nat) (v : mV), L[i]? = some (some v) → mok v) → mvc g prog cuts rt h Qp (fun pc' L' st' S'' => ∃ n', n' < n ∧ I n' pc' L' st' S'') fuel pc L st S') : CM g y cc nL rt h as S Qp := by
  refine Met.ofW (cc := cc) (maxL := nL) (ret := rt) hy.1 rfl ?_
  intro p e s m args below meth c s₁ B hml hv
  obtain ⟨rfl, hP, hK, hD, hok⟩ := hv
  have hts := atoms_spec (ws := ws_ y cc nL rt) B.pre
  have hts : ∀ w ∈ lw_all, w.before _ s = true := fun w h => hts w (List.mem_cons_of_mem _ h)
  have hown : s.vm.findClass RX6 = some m.cls := by
    have := findClass_of_methodNamed B.named
    rw [hy.2] at this
    exact this
  have X : mX p (headSpec (ws_ y cc nL rt) { frames := h, cells := 0, slots := 0, locals := 64 * h }).room s m (as.map (mv g)).toArray meth c g cc nL h rt := ⟨B.exec, B.bytes, hml, B.returns, B.notSynchronized, hown, hts, hK, hD, Nat.le_refl _, Nat.le_refl _⟩
  have hloop : ∀ (n pc : Nat) (L : mL) (st : List mV) (S' : mS), I n pc L st S' → WM p g.1 e (headSpec (ws_ y cc nL rt) { frames := h, cells := 0, slots := 0, locals := 64 * h }).room s m (as.map (mv g)).toArray below meth c g nL Qp pc L st S' := by
    intro n
    induction n using Nat.strongRecOn with
    | _ n ih =>
      intro pc L st S' hI H locs ls hP2 hS2 hL2
      exact mvc_ok X rfl hp (fun pc' L' st' S'' q => by obtain ⟨n', q1, q2⟩ := q; exact ih n' q1 pc' L' st' S'' q2) fuel pc L st S' (hc n pc L st S' hI hP2.2.2 (fun i v q => (hL2.2.2.2 i v q).2)) H locs ls hP2 hS2 hL2
  have hw := mvc_ok (l := g.1) (e := e) (below := below) X rfl hp (fun pc' L' st' S'' q => by obtain ⟨n', q2⟩ := q; exact hloop n' pc' L' st' S'' q2) fuel 0 (mentry nL as) [] S (h0 hok hP.2.2)
  have hsl := m_lgsl (g := g) as hcat
  have hl := lv_entry (as.map (mv g)) (n := nL) (by rw [hsl]; simpa using hlen)
  rw [lg_entry_eq]
  refine hw s.heap [] _ hP va_S.rf ⟨by simp [mentry]; omega, hl.1, hl.2.1, fun i v hv => ?_⟩ (fun v hv => by cases hv)
  have hi : as[i]? = some v := by
    unfold mentry at hv
    by_cases hi : i < as.length
    · rw [List.getElem?_append_left (by simpa using hi), List.getElem?_map] at hv
      cases ha : as[i]? with
      | none => rw [ha] at hv; cases hv
      | some w => rw [ha] at hv; cases hv; rfl
    · rw [List.getElem?_append_right (by simpa using hi)] at hv
      have := List.eq_of_mem_replicate (List.mem_of_getElem? hv)
      cases this
  refine ⟨?_, hok v (List.mem_of_getElem? hi)⟩
  rw [hsl]
  have hil : i < as.length := (List.getElem?_eq_some_iff.mp hi).1
  rw [List.getElem?_toArray, List.getElem?_append_left (by simpa using hil), List.getElem?_map, List.getElem?_map, hi]
  rfl

/-! Contracts out of conditions; printed by gen_vc.py. -/
set_option maxRecDepth 100000
set_option maxHeartbeats 4000000 in
theorem of_slopes {g : mG} {S : mS} {a1 a2 : Int} {Qp : Option mV → mS → Prop} (I17 : Nat → Int → Int → Int → Int → mS → Prop)
    (hE : mI S → (-2147483648 ≤ a1 ∧ a1 ≤ 2147483647) → (-2147483648 ≤ a2 ∧ a2 ≤ 2147483647) → CX_inOrder g [mt, mi a1] (mup S 76 0 0) (Qi fun v2 S1 => mI S1 → (-2147483648 ≤ v2 ∧ v2 ≤ 2147483647) → (∃ n1, I17 n1 a2 v2 0 0 S1)))
    (h17 : ∀ (n : Nat) (l2 l3 l4 l5 : Int) (T : mS), mI T → (-2147483648 ≤ l2 ∧ l2 ≤ 2147483647) → (-2147483648 ≤ l3 ∧ l3 ≤ 2147483647) → (-2147483648 ≤ l4 ∧ l4 ≤ 2147483647) → (-2147483648 ≤ l5 ∧ l5 ≤ 2147483647) → I17 n l2 l3 l4 l5 T → ((l3 ≤ l5) → Qp (some (mi l4)) T) ∧ (¬ (l3 ≤ l5) → ((l4 ≠ 0) → Qp (some (mi l4)) T) ∧ (¬ (l4 ≠ 0) → (0 ≤ l5) ∧ (l5 < 100) ∧ CX_pairNode g [mt, mi (T 14 l5), mi l2] T (Qi fun v4 S3 => mI S3 → (-2147483648 ≤ v4 ∧ v4 ≤ 2147483647) → (-2147483648 ≤ ((l5 + 1) : Int) ∧ (l5 + 1) ≤ 2147483647) ∧ (∃ n1, n1 < n ∧ I17 n1 l2 l3 v4 (l5 + 1) S3)))))
    : CX_slopes g [mt, mi a1, mi a2] S Qp := by
  refine cm_y ⟨by decide, rfl⟩ (by simp [mcat]) (by simp) (fun n pc L st S => (pc = 17 ∧ ∃ (l2 : Int) (l3 : Int) (l4 : Int) (l5 : Int), L = [some mt, none, some (mi l2), some (mi l3), some (mi l4), some (mi l5)] ∧ st = [] ∧ I17 n l2 l3 l4 l5 S)) ?_ ?_
  · intro ha hS P Y Wk hIc
    have h := hE hS (mokI (ha (mi a1) (by simp))) (mokI (ha (mi a2) (by simp)))
    clear hE ha h17
    refine y_aload_n 0 Y dX6_slopes_0 rfl ?_
    refine y_iconst 1 Y dX6_slopes_1 rfl ?_
    refine y_putf 2 Y 76 dX6_slopes_2 rfl rfl (fun q => absurd q (by decide)) ?_
    refine y_aload_n 5 Y dX6_slopes_5 rfl ?_
    refine y_iload_n 6 Y dX6_slopes_6 rfl ?_
    refine y_call 7 Y (as := [mi a1]) [] dX6_slopes_7 rfl rfl rfl rfl rfl h (fun r S1 hq hI hr => ?_)
    obtain ⟨v2, rfl, h⟩ := Qi_ok hq
    replace h := h hI (mokI (hr _ rfl))
    clear hq hr
    refine y_istore_n 10 Y [some mt, some (mi a1), some (mi a2), some (mi v2), none, none] dX6_slopes_10 rfl rfl ?_
    refine y_iconst 11 Y dX6_slopes_11 rfl ?_
    refine y_istore 12 Y [some mt, some (mi a1), some (mi a2), some (mi v2), some (mi 0), none] dX6_slopes_12 rfl rfl ?_
    refine y_iconst 14 Y dX6_slopes_14 rfl ?_
    refine y_istore 15 Y [some mt, some (mi a1), some (mi a2), some (mi v2), some (mi 0), some (mi 0)] dX6_slopes_15 rfl rfl ?_
    obtain ⟨n1, h⟩ := h
    exact Wk 17 _ [some mt, none, some (mi a2), some (mi v2), some (mi 0), some (mi 0)] _ _ ⟨rfl, ⟨rfl, ⟨rfl, ⟨rfl, ⟨rfl, trivial⟩⟩⟩⟩⟩ (hIc n1 _ _ _ _ ((⟨rfl, _, _, _, _, rfl, rfl, h⟩)))
  · intro n pc L st T hi hS hL P Y Wk hIc
    clear hE
    rcases hi with ⟨rfl, l2, l3, l4, l5, rfl, rfl, hi⟩
    · have h := h17 n l2 l3 l4 l5 T hS (hL 2 _ rfl) (hL 3 _ rfl) (hL 4 _ rfl) (hL 5 _ rfl) hi
      clear hL hi h17
      refine y_iload 17 Y dX6_slopes_17 rfl ?_
      refine y_iload_n 19 Y dX6_slopes_19 rfl ?_
      refine y_icmp 20 48 Y dX6_slopes_20 rfl rfl (fun c => ?_) (fun c => ?_)
      · replace h := h.1 c
        refine y_iload 48 Y dX6_slopes_48 rfl ?_
        exact y_iret 50 Y dX6_slopes_50 rfl h
      · replace h := h.2 c
        refine y_iload 23 Y dX6_slopes_23 rfl ?_
        refine y_if 25 48 Y dX6_slopes_25 rfl rfl (fun c => ?_) (fun c => ?_)
        · replace h := h.1 c
          refine y_iload 48 Y dX6_slopes_48 rfl ?_
          exact y_iret 50 Y dX6_slopes_50 rfl h
        · replace h := h.2 c
          refine y_aload_n 28 Y dX6_slopes_28 rfl ?_
          refine y_aload_n 29 Y dX6_slopes_29 rfl ?_
          refine y_geta 30 Y 14 dX6_slopes_30 rfl rfl ?_
          refine y_iload 33 Y dX6_slopes_33 rfl ?_
          obtain ⟨o1, h⟩ := h
          obtain ⟨o2, h⟩ := h
          refine y_iald 35 Y dX6_slopes_35 rfl rfl o1 o2 (fun _ => ?_)
          refine y_iload_n 36 Y dX6_slopes_36 rfl ?_
          refine y_call 37 Y (as := [mi (T 14 l5), mi l2]) [] dX6_slopes_37 rfl rfl rfl rfl rfl h (fun r S3 hq hI hr => ?_)
          obtain ⟨v4, rfl, h⟩ := Qi_ok hq
          replace h := h hI (mokI (hr _ rfl))
          clear hq hr
          refine y_istore 40 Y [some mt, none, some (mi l2), some (mi l3), some (mi v4), some (mi l5)] dX6_slopes_40 rfl rfl ?_
          obtain ⟨o5, h⟩ := h
          refine y_iinc 42 Y [some mt, none, some (mi l2), some (mi l3), some (mi v4), some (mi (l5 + 1))] dX6_slopes_42 rfl rfl o5 ?_
          refine y_goto 45 17 Y dX6_slopes_45 rfl rfl ?_
          obtain ⟨n1, hn, h⟩ := h
          exact Wk 17 _ [some mt, none, some (mi l2), some (mi l3), some (mi v4), some (mi (l5 + 1))] _ _ ⟨rfl, ⟨rfl, ⟨rfl, ⟨rfl, ⟨rfl, trivial⟩⟩⟩⟩⟩ (hIc n1 _ _ _ _ hn ((⟨rfl, _, _, _, _, rfl, rfl, h⟩)))
set_option maxHeartbeats 4000000 in
theorem of_evaluate {g : mG} {S : mS} {a1 : Int} {Qp : Option mV → mS → Prop}
    (hE : mI S → (-2147483648 ≤ a1 ∧ a1 ≤ 2147483647) → CX_isTree g [mt, mi a1] S (Qi fun v2 S1 => mI S1 → (-2147483648 ≤ v2 ∧ v2 ≤ 2147483647) → ((v2 ≠ 0) → CX_refused g [mt, mi 0, mi 0, mi 0] S1 (Qi fun v4 S3 => mI S3 → (-2147483648 ≤ v4 ∧ v4 ≤ 2147483647) → ((v4 = 0) → CX_shelf g [mi a1] S3 (Qi fun v6 S5 => mI S5 → (-2147483648 ≤ v6 ∧ v6 ≤ 2147483647) → CX_answers g [mt, mi v6] S5 (Qi fun v8 S7 => mI S7 → (-2147483648 ≤ v8 ∧ v8 ≤ 2147483647) → Qp (some (mi v8)) S7))) ∧ (¬ (v4 = 0) → Qp (some (mi 0)) S3))) ∧ (¬ (v2 ≠ 0) → CX_refused g [mt, mi 1, mi 0, mi 0] S1 (Qi fun v10 S9 => mI S9 → (-2147483648 ≤ v10 ∧ v10 ≤ 2147483647) → ((v10 = 0) → CX_shelf g [mi a1] S9 (Qi fun v12 S11 => mI S11 → (-2147483648 ≤ v12 ∧ v12 ≤ 2147483647) → CX_answers g [mt, mi v12] S11 (Qi fun v14 S13 => mI S13 → (-2147483648 ≤ v14 ∧ v14 ≤ 2147483647) → Qp (some (mi v14)) S13))) ∧ (¬ (v10 = 0) → Qp (some (mi 0)) S9)))))
    : CX_evaluate g [mt, mi a1] S Qp := by
  refine cm_y ⟨by decide, rfl⟩ (by simp [mcat]) (by simp) (fun _ _ _ _ _ => False) ?_ ?_
  · intro ha hS P Y Wk hIc
    have h := hE hS (mokI (ha (mi a1) (by simp)))
    clear hE ha
    refine y_aload_n 0 Y dX6_evaluate_0 rfl ?_
    refine y_aload_n 1 Y dX6_evaluate_1 rfl ?_
    refine y_iload_n 2 Y dX6_evaluate_2 rfl ?_
    refine y_call 3 Y (as := [mi a1]) [mt] dX6_evaluate_3 rfl rfl rfl rfl rfl h (fun r S1 hq hI hr => ?_)
    obtain ⟨v2, rfl, h⟩ := Qi_ok hq
    replace h := h hI (mokI (hr _ rfl))
    clear hq hr
    refine y_if 6 13 Y dX6_evaluate_6 rfl rfl (fun c => ?_) (fun c => ?_)
    · replace h := h.1 c
      refine y_iconst 13 Y dX6_evaluate_13 rfl ?_
      refine y_iconst 14 Y dX6_evaluate_14 rfl ?_
      refine y_iconst 15 Y dX6_evaluate_15 rfl ?_
      refine y_call 16 Y (as := [mi 0, mi 0, mi 0]) [] dX6_evaluate_16 rfl rfl rfl rfl rfl h (fun r S3 hq hI hr => ?_)
      obtain ⟨v4, rfl, h⟩ := Qi_ok hq
      replace h := h hI (mokI (hr _ rfl))
      clear hq hr
      refine y_if 19 26 Y dX6_evaluate_19 rfl rfl (fun c => ?_) (fun c => ?_)
      · replace h := h.1 c
        refine y_aload_n 26 Y dX6_evaluate_26 rfl ?_
        refine y_iload_n 27 Y dX6_evaluate_27 rfl ?_
        refine y_calls 28 Y (as := [mi a1]) [mt] dX6_evaluate_28 rfl rfl rfl rfl rfl h (fun r S5 hq hI hr => ?_)
        obtain ⟨v6, rfl, h⟩ := Qi_ok hq
        replace h := h hI (mokI (hr _ rfl))
        clear hq hr
        refine y_call 31 Y (as := [mi v6]) [] dX6_evaluate_31 rfl rfl rfl rfl rfl h (fun r S7 hq hI hr => ?_)
        obtain ⟨v8, rfl, h⟩ := Qi_ok hq
        replace h := h hI (mokI (hr _ rfl))
        clear hq hr
        exact y_iret 34 Y dX6_evaluate_34 rfl h
      · replace h := h.2 c
        refine y_iconst 22 Y dX6_evaluate_22 rfl ?_
        refine y_goto 23 34 Y dX6_evaluate_23 rfl rfl ?_
        exact y_iret 34 Y dX6_evaluate_34 rfl h
    · replace h := h.2 c
      refine y_iconst 9 Y dX6_evaluate_9 rfl ?_
      refine y_goto 10 14 Y dX6_evaluate_10 rfl rfl ?_
      refine y_iconst 14 Y dX6_evaluate_14 rfl ?_
      refine y_iconst 15 Y dX6_evaluate_15 rfl ?_
      refine y_call 16 Y (as := [mi 1, mi 0, mi 0]) [] dX6_evaluate_16 rfl rfl rfl rfl rfl h (fun r S9 hq hI hr => ?_)
      obtain ⟨v10, rfl, h⟩ := Qi_ok hq
      replace h := h hI (mokI (hr _ rfl))
      clear hq hr
      refine y_if 19 26 Y dX6_evaluate_19 rfl rfl (fun c => ?_) (fun c => ?_)
      · replace h := h.1 c
        refine y_aload_n 26 Y dX6_evaluate_26 rfl ?_
        refine y_iload_n 27 Y dX6_evaluate_27 rfl ?_
        refine y_calls 28 Y (as := [mi a1]) [mt] dX6_evaluate_28 rfl rfl rfl rfl rfl h (fun r S11 hq hI hr => ?_)
        obtain ⟨v12, rfl, h⟩ := Qi_ok hq
        replace h := h hI (mokI (hr _ rfl))
        clear hq hr
        refine y_call 31 Y (as := [mi v12]) [] dX6_evaluate_31 rfl rfl rfl rfl rfl h (fun r S13 hq hI hr => ?_)
        obtain ⟨v14, rfl, h⟩ := Qi_ok hq
        replace h := h hI (mokI (hr _ rfl))
        clear hq hr
        exact y_iret 34 Y dX6_evaluate_34 rfl h
      · replace h := h.2 c
        refine y_iconst 22 Y dX6_evaluate_22 rfl ?_
        refine y_goto 23 34 Y dX6_evaluate_23 rfl rfl ?_
        exact y_iret 34 Y dX6_evaluate_34 rfl h
  · intro n pc L st T hi
    exact hi.elim
set_option maxHeartbeats 4000000 in
theorem of_isSlope {g : mG} {S : mS} {a1 a2 : Int} {Qp : Option mV → mS → Prop}
    (hE : mI S → (-2147483648 ≤ a1 ∧ a1 ≤ 2147483647) → (-2147483648 ≤ a2 ∧ a2 ≤ 2147483647) → CX_derives g [mt, mi a1, mi a2] S (Qi fun v2 S1 => mI S1 → (-2147483648 ≤ v2 ∧ v2 ≤ 2147483647) → ((v2 = (-1)) → Qp (some (mi 1)) S1) ∧ (¬ (v2 = (-1)) → CX_run g [mt, mi 13740] S1 (Qi fun v4 S3 => mI S3 → (-2147483648 ≤ v4 ∧ v4 ≤ 2147483647) → ((v4 = 0) → CX_copyValue g [mt, mi 3606, mi 60] S3 (Qv fun S5 => mI S5 → CX_slopes g [mt, mi a1, mi a2] S5 (Qi fun v7 S6 => mI S6 → (-2147483648 ≤ v7 ∧ v7 ≤ 2147483647) → ((v7 ≠ 0) → Qp (some (mi 1)) S6) ∧ (¬ (v7 ≠ 0) → CX_partAt g [mi 0] S6 (Qi fun v9 S8 => mI S8 → (-2147483648 ≤ v9 ∧ v9 ≤ 2147483647) → CX_compareValues g [mt, mi 3606, mi v9] S8 (Qi fun v11 S10 => mI S10 → (-2147483648 ≤ v11 ∧ v11 ≤ 2147483647) → ((v11 ≠ 0) → Qp (some (mi 0)) S10) ∧ (¬ (v11 ≠ 0) → Qp (some (mi 1)) S10))))))) ∧ (¬ (v4 = 0) → Qp (some (mi 1)) S3)))))
    : CX_isSlope g [mt, mi a1, mi a2] S Qp := by
  refine cm_y ⟨by decide, rfl⟩ (by simp [mcat]) (by simp) (fun _ _ _ _ _ => False) ?_ ?_
  · intro ha hS P Y Wk hIc
    have h := hE hS (mokI (ha (mi a1) (by simp))) (mokI (ha (mi a2) (by simp)))
    clear hE ha
    refine y_aload_n 0 Y dX6_isSlope_0 rfl ?_
    refine y_iload_n 1 Y dX6_isSlope_1 rfl ?_
    refine y_iload_n 2 Y dX6_isSlope_2 rfl ?_
    refine y_call 3 Y (as := [mi a1, mi a2]) [] dX6_isSlope_3 rfl rfl rfl rfl rfl h (fun r S1 hq hI hr => ?_)
    obtain ⟨v2, rfl, h⟩ := Qi_ok hq
    replace h := h hI (mokI (hr _ rfl))
    clear hq hr
    refine y_istore_n 6 Y [some mt, some (mi a1), some (mi a2), some (mi v2)] dX6_isSlope_6 rfl rfl ?_
    refine y_iload_n 7 Y dX6_isSlope_7 rfl ?_
    refine y_iconst 8 Y dX6_isSlope_8 rfl ?_
    refine y_icmp 9 22 Y dX6_isSlope_9 rfl rfl (fun c => ?_) (fun c => ?_)
    · replace h := h.1 c
      refine y_iconst 22 Y dX6_isSlope_22 rfl ?_
      exact y_zret 23 Y dX6_isSlope_23 rfl (by decide) h
    · replace h := h.2 c
      refine y_aload_n 12 Y dX6_isSlope_12 rfl ?_
      refine y_sipush 13 Y dX6_isSlope_13 rfl ?_
      refine y_call 16 Y (as := [mi 13740]) [] dX6_isSlope_16 rfl rfl rfl rfl rfl h (fun r S3 hq hI hr => ?_)
      obtain ⟨v4, rfl, h⟩ := Qi_ok hq
      replace h := h hI (mokI (hr _ rfl))
      clear hq hr
      refine y_if 19 24 Y dX6_isSlope_19 rfl rfl (fun c => ?_) (fun c => ?_)
      · replace h := h.1 c
        refine y_aload_n 24 Y dX6_isSlope_24 rfl ?_
        refine y_sipush 25 Y dX6_isSlope_25 rfl ?_
        refine y_bipush 28 Y dX6_isSlope_28 rfl ?_
        refine y_call 30 Y (as := [mi 3606, mi 60]) [] dX6_isSlope_30 rfl rfl rfl rfl rfl h (fun r S5 hq hI _ => ?_)
        obtain ⟨rfl, h⟩ := Qv_ok hq
        replace h := h hI
        clear hq
        refine y_aload_n 33 Y dX6_isSlope_33 rfl ?_
        refine y_iload_n 34 Y dX6_isSlope_34 rfl ?_
        refine y_iload_n 35 Y dX6_isSlope_35 rfl ?_
        refine y_call 36 Y (as := [mi a1, mi a2]) [] dX6_isSlope_36 rfl rfl rfl rfl rfl h (fun r S6 hq hI hr => ?_)
        obtain ⟨v7, rfl, h⟩ := Qi_ok hq
        replace h := h hI (mokI (hr _ rfl))
        clear hq hr
        refine y_if 39 56 Y dX6_isSlope_39 rfl rfl (fun c => ?_) (fun c => ?_)
        · replace h := h.1 c
          refine y_iconst 56 Y dX6_isSlope_56 rfl ?_
          refine y_goto 57 61 Y dX6_isSlope_57 rfl rfl ?_
          exact y_zret 61 Y dX6_isSlope_61 rfl (by decide) h
        · replace h := h.2 c
          refine y_aload_n 42 Y dX6_isSlope_42 rfl ?_
          refine y_sipush 43 Y dX6_isSlope_43 rfl ?_
          refine y_iconst 46 Y dX6_isSlope_46 rfl ?_
          refine y_calls 47 Y (as := [mi 0]) [mi 3606, mt] dX6_isSlope_47 rfl rfl rfl rfl rfl h (fun r S8 hq hI hr => ?_)
          obtain ⟨v9, rfl, h⟩ := Qi_ok hq
          replace h := h hI (mokI (hr _ rfl))
          clear hq hr
          refine y_call 50 Y (as := [mi 3606, mi v9]) [] dX6_isSlope_50 rfl rfl rfl rfl rfl h (fun r S10 hq hI hr => ?_)
          obtain ⟨v11, rfl, h⟩ := Qi_ok hq
          replace h := h hI (mokI (hr _ rfl))
          clear hq hr
          refine y_if 53 60 Y dX6_isSlope_53 rfl rfl (fun c => ?_) (fun c => ?_)
          · replace h := h.1 c
            refine y_iconst 60 Y dX6_isSlope_60 rfl ?_
            exact y_zret 61 Y dX6_isSlope_61 rfl (by decide) h
          · replace h := h.2 c
            refine y_iconst 56 Y dX6_isSlope_56 rfl ?_
            refine y_goto 57 61 Y dX6_isSlope_57 rfl rfl ?_
            exact y_zret 61 Y dX6_isSlope_61 rfl (by decide) h
      · replace h := h.2 c
        refine y_iconst 22 Y dX6_isSlope_22 rfl ?_
        exact y_zret 23 Y dX6_isSlope_23 rfl (by decide) h
  · intro n pc L st T hi
    exact hi.elim
set_option maxHeartbeats 4000000 in
theorem of_reckon {g : mG} {S : mS} {a1 : Int} {Qp : Option mV → mS → Prop}
    (hE : mI S → (-2147483648 ≤ a1 ∧ a1 ≤ 2147483647) → CX_isTree g [mt, mi a1] S (Qi fun v2 S1 => mI S1 → (-2147483648 ≤ v2 ∧ v2 ≤ 2147483647) → ((v2 ≠ 0) → CX_isTree g [mt, mi a1] S1 (Qi fun v4 S3 => mI S3 → (-2147483648 ≤ v4 ∧ v4 ≤ 2147483647) → ((v4 = 0) → CX_refused g [mt, mi 0, mi 0, mi 0] S3 (Qi fun v6 S5 => mI S5 → (-2147483648 ≤ v6 ∧ v6 ≤ 2147483647) → ((v6 = 0) → CX_shelf g [mi a1] S5 (Qi fun v8 S7 => mI S7 → (-2147483648 ≤ v8 ∧ v8 ≤ 2147483647) → CX_answers g [mt, mi v8] S7 (Qi fun v10 S9 => mI S9 → (-2147483648 ≤ v10 ∧ v10 ≤ 2147483647) → Qp (some (mi v10)) S9))) ∧ (¬ (v6 = 0) → Qp (some (mi 0)) S5))) ∧ (¬ (v4 = 0) → CX_shelf g [mi a1] S3 (Qi fun v12 S11 => mI S11 → (-2147483648 ≤ v12 ∧ v12 ≤ 2147483647) → CX_hasOwnCall g [mt, mi v12] S11 (Qi fun v14 S13 => mI S13 → (-2147483648 ≤ v14 ∧ v14 ≤ 2147483647) → ((v14 = 0) → CX_refused g [mt, mi 0, mi 0, mi 0] S13 (Qi fun v16 S15 => mI S15 → (-2147483648 ≤ v16 ∧ v16 ≤ 2147483647) → ((v16 = 0) → CX_shelf g [mi a1] S15 (Qi fun v18 S17 => mI S17 → (-2147483648 ≤ v18 ∧ v18 ≤ 2147483647) → CX_answers g [mt, mi v18] S17 (Qi fun v20 S19 => mI S19 → (-2147483648 ≤ v20 ∧ v20 ≤ 2147483647) → Qp (some (mi v20)) S19))) ∧ (¬ (v16 = 0) → Qp (some (mi 0)) S15))) ∧ (¬ (v14 = 0) → CX_refused g [mt, mi 0, mi 1, mi 0] S13 (Qi fun v22 S21 => mI S21 → (-2147483648 ≤ v22 ∧ v22 ≤ 2147483647) → ((v22 = 0) → CX_shelf g [mi a1] S21 (Qi fun v24 S23 => mI S23 → (-2147483648 ≤ v24 ∧ v24 ≤ 2147483647) → CX_answers g [mt, mi v24] S23 (Qi fun v26 S25 => mI S25 → (-2147483648 ≤ v26 ∧ v26 ≤ 2147483647) → Qp (some (mi v26)) S25))) ∧ (¬ (v22 = 0) → Qp (some (mi 0)) S21)))))))) ∧ (¬ (v2 ≠ 0) → CX_isTree g [mt, mi a1] S1 (Qi fun v28 S27 => mI S27 → (-2147483648 ≤ v28 ∧ v28 ≤ 2147483647) → ((v28 = 0) → CX_refused g [mt, mi 1, mi 0, mi 0] S27 (Qi fun v30 S29 => mI S29 → (-2147483648 ≤ v30 ∧ v30 ≤ 2147483647) → ((v30 = 0) → CX_shelf g [mi a1] S29 (Qi fun v32 S31 => mI S31 → (-2147483648 ≤ v32 ∧ v32 ≤ 2147483647) → CX_answers g [mt, mi v32] S31 (Qi fun v34 S33 => mI S33 → (-2147483648 ≤ v34 ∧ v34 ≤ 2147483647) → Qp (some (mi v34)) S33))) ∧ (¬ (v30 = 0) → Qp (some (mi 0)) S29))) ∧ (¬ (v28 = 0) → CX_shelf g [mi a1] S27 (Qi fun v36 S35 => mI S35 → (-2147483648 ≤ v36 ∧ v36 ≤ 2147483647) → CX_hasOwnCall g [mt, mi v36] S35 (Qi fun v38 S37 => mI S37 → (-2147483648 ≤ v38 ∧ v38 ≤ 2147483647) → ((v38 = 0) → CX_refused g [mt, mi 1, mi 0, mi 0] S37 (Qi fun v40 S39 => mI S39 → (-2147483648 ≤ v40 ∧ v40 ≤ 2147483647) → ((v40 = 0) → CX_shelf g [mi a1] S39 (Qi fun v42 S41 => mI S41 → (-2147483648 ≤ v42 ∧ v42 ≤ 2147483647) → CX_answers g [mt, mi v42] S41 (Qi fun v44 S43 => mI S43 → (-2147483648 ≤ v44 ∧ v44 ≤ 2147483647) → Qp (some (mi v44)) S43))) ∧ (¬ (v40 = 0) → Qp (some (mi 0)) S39))) ∧ (¬ (v38 = 0) → CX_refused g [mt, mi 1, mi 1, mi 0] S37 (Qi fun v46 S45 => mI S45 → (-2147483648 ≤ v46 ∧ v46 ≤ 2147483647) → ((v46 = 0) → CX_shelf g [mi a1] S45 (Qi fun v48 S47 => mI S47 → (-2147483648 ≤ v48 ∧ v48 ≤ 2147483647) → CX_answers g [mt, mi v48] S47 (Qi fun v50 S49 => mI S49 → (-2147483648 ≤ v50 ∧ v50 ≤ 2147483647) → Qp (some (mi v50)) S49))) ∧ (¬ (v46 = 0) → Qp (some (mi 0)) S45))))))))))
    : CX_reckon g [mt, mi a1] S Qp := by
  refine cm_y ⟨by decide, rfl⟩ (by simp [mcat]) (by simp) (fun _ _ _ _ _ => False) ?_ ?_
  · intro ha hS P Y Wk hIc
    have h := hE hS (mokI (ha (mi a1) (by simp)))
    clear hE ha
    refine y_aload_n 0 Y dX6_reckon_0 rfl ?_
    refine y_aload_n 1 Y dX6_reckon_1 rfl ?_
    refine y_iload_n 2 Y dX6_reckon_2 rfl ?_
    refine y_call 3 Y (as := [mi a1]) [mt] dX6_reckon_3 rfl rfl rfl rfl rfl h (fun r S1 hq hI hr => ?_)
    obtain ⟨v2, rfl, h⟩ := Qi_ok hq
    replace h := h hI (mokI (hr _ rfl))
    clear hq hr
    refine y_if 6 13 Y dX6_reckon_6 rfl rfl (fun c => ?_) (fun c => ?_)
    · replace h := h.1 c
      refine y_iconst 13 Y dX6_reckon_13 rfl ?_
      refine y_aload_n 14 Y dX6_reckon_14 rfl ?_
      refine y_iload_n 15 Y dX6_reckon_15 rfl ?_
      refine y_call 16 Y (as := [mi a1]) [mi 0, mt] dX6_reckon_16 rfl rfl rfl rfl rfl h (fun r S3 hq hI hr => ?_)
      obtain ⟨v4, rfl, h⟩ := Qi_ok hq
      replace h := h hI (mokI (hr _ rfl))
      clear hq hr
      refine y_if 19 37 Y dX6_reckon_19 rfl rfl (fun c => ?_) (fun c => ?_)
      · replace h := h.1 c
        refine y_iconst 37 Y dX6_reckon_37 rfl ?_
        refine y_iconst 38 Y dX6_reckon_38 rfl ?_
        refine y_call 39 Y (as := [mi 0, mi 0, mi 0]) [] dX6_reckon_39 rfl rfl rfl rfl rfl h (fun r S5 hq hI hr => ?_)
        obtain ⟨v6, rfl, h⟩ := Qi_ok hq
        replace h := h hI (mokI (hr _ rfl))
        clear hq hr
        refine y_if 42 49 Y dX6_reckon_42 rfl rfl (fun c => ?_) (fun c => ?_)
        · replace h := h.1 c
          refine y_aload_n 49 Y dX6_reckon_49 rfl ?_
          refine y_iload_n 50 Y dX6_reckon_50 rfl ?_
          refine y_calls 51 Y (as := [mi a1]) [mt] dX6_reckon_51 rfl rfl rfl rfl rfl h (fun r S7 hq hI hr => ?_)
          obtain ⟨v8, rfl, h⟩ := Qi_ok hq
          replace h := h hI (mokI (hr _ rfl))
          clear hq hr
          refine y_call 54 Y (as := [mi v8]) [] dX6_reckon_54 rfl rfl rfl rfl rfl h (fun r S9 hq hI hr => ?_)
          obtain ⟨v10, rfl, h⟩ := Qi_ok hq
          replace h := h hI (mokI (hr _ rfl))
          clear hq hr
          exact y_iret 57 Y dX6_reckon_57 rfl h
        · replace h := h.2 c
          refine y_iconst 45 Y dX6_reckon_45 rfl ?_
          refine y_goto 46 57 Y dX6_reckon_46 rfl rfl ?_
          exact y_iret 57 Y dX6_reckon_57 rfl h
      · replace h := h.2 c
        refine y_aload_n 22 Y dX6_reckon_22 rfl ?_
        refine y_iload_n 23 Y dX6_reckon_23 rfl ?_
        refine y_calls 24 Y (as := [mi a1]) [mt, mi 0, mt] dX6_reckon_24 rfl rfl rfl rfl rfl h (fun r S11 hq hI hr => ?_)
        obtain ⟨v12, rfl, h⟩ := Qi_ok hq
        replace h := h hI (mokI (hr _ rfl))
        clear hq hr
        refine y_call 27 Y (as := [mi v12]) [mi 0, mt] dX6_reckon_27 rfl rfl rfl rfl rfl h (fun r S13 hq hI hr => ?_)
        obtain ⟨v14, rfl, h⟩ := Qi_ok hq
        replace h := h hI (mokI (hr _ rfl))
        clear hq hr
        refine y_if 30 37 Y dX6_reckon_30 rfl rfl (fun c => ?_) (fun c => ?_)
        · replace h := h.1 c
          refine y_iconst 37 Y dX6_reckon_37 rfl ?_
          refine y_iconst 38 Y dX6_reckon_38 rfl ?_
          refine y_call 39 Y (as := [mi 0, mi 0, mi 0]) [] dX6_reckon_39 rfl rfl rfl rfl rfl h (fun r S15 hq hI hr => ?_)
          obtain ⟨v16, rfl, h⟩ := Qi_ok hq
          replace h := h hI (mokI (hr _ rfl))
          clear hq hr
          refine y_if 42 49 Y dX6_reckon_42 rfl rfl (fun c => ?_) (fun c => ?_)
          · replace h := h.1 c
            refine y_aload_n 49 Y dX6_reckon_49 rfl ?_
            refine y_iload_n 50 Y dX6_reckon_50 rfl ?_
            refine y_calls 51 Y (as := [mi a1]) [mt] dX6_reckon_51 rfl rfl rfl rfl rfl h (fun r S17 hq hI hr => ?_)
            obtain ⟨v18, rfl, h⟩ := Qi_ok hq
            replace h := h hI (mokI (hr _ rfl))
            clear hq hr
            refine y_call 54 Y (as := [mi v18]) [] dX6_reckon_54 rfl rfl rfl rfl rfl h (fun r S19 hq hI hr => ?_)
            obtain ⟨v20, rfl, h⟩ := Qi_ok hq
            replace h := h hI (mokI (hr _ rfl))
            clear hq hr
            exact y_iret 57 Y dX6_reckon_57 rfl h
          · replace h := h.2 c
            refine y_iconst 45 Y dX6_reckon_45 rfl ?_
            refine y_goto 46 57 Y dX6_reckon_46 rfl rfl ?_
            exact y_iret 57 Y dX6_reckon_57 rfl h
        · replace h := h.2 c
          refine y_iconst 33 Y dX6_reckon_33 rfl ?_
          refine y_goto 34 38 Y dX6_reckon_34 rfl rfl ?_
          refine y_iconst 38 Y dX6_reckon_38 rfl ?_
          refine y_call 39 Y (as := [mi 0, mi 1, mi 0]) [] dX6_reckon_39 rfl rfl rfl rfl rfl h (fun r S21 hq hI hr => ?_)
          obtain ⟨v22, rfl, h⟩ := Qi_ok hq
          replace h := h hI (mokI (hr _ rfl))
          clear hq hr
          refine y_if 42 49 Y dX6_reckon_42 rfl rfl (fun c => ?_) (fun c => ?_)
          · replace h := h.1 c
            refine y_aload_n 49 Y dX6_reckon_49 rfl ?_
            refine y_iload_n 50 Y dX6_reckon_50 rfl ?_
            refine y_calls 51 Y (as := [mi a1]) [mt] dX6_reckon_51 rfl rfl rfl rfl rfl h (fun r S23 hq hI hr => ?_)
            obtain ⟨v24, rfl, h⟩ := Qi_ok hq
            replace h := h hI (mokI (hr _ rfl))
            clear hq hr
            refine y_call 54 Y (as := [mi v24]) [] dX6_reckon_54 rfl rfl rfl rfl rfl h (fun r S25 hq hI hr => ?_)
            obtain ⟨v26, rfl, h⟩ := Qi_ok hq
            replace h := h hI (mokI (hr _ rfl))
            clear hq hr
            exact y_iret 57 Y dX6_reckon_57 rfl h
          · replace h := h.2 c
            refine y_iconst 45 Y dX6_reckon_45 rfl ?_
            refine y_goto 46 57 Y dX6_reckon_46 rfl rfl ?_
            exact y_iret 57 Y dX6_reckon_57 rfl h
    · replace h := h.2 c
      refine y_iconst 9 Y dX6_reckon_9 rfl ?_
      refine y_goto 10 14 Y dX6_reckon_10 rfl rfl ?_
      refine y_aload_n 14 Y dX6_reckon_14 rfl ?_
      refine y_iload_n 15 Y dX6_reckon_15 rfl ?_
      refine y_call 16 Y (as := [mi a1]) [mi 1, mt] dX6_reckon_16 rfl rfl rfl rfl rfl h (fun r S27 hq hI hr => ?_)
      obtain ⟨v28, rfl, h⟩ := Qi_ok hq
      replace h := h hI (mokI (hr _ rfl))
      clear hq hr
      refine y_if 19 37 Y dX6_reckon_19 rfl rfl (fun c => ?_) (fun c => ?_)
      · replace h := h.1 c
        refine y_iconst 37 Y dX6_reckon_37 rfl ?_
        refine y_iconst 38 Y dX6_reckon_38 rfl ?_
        refine y_call 39 Y (as := [mi 1, mi 0, mi 0]) [] dX6_reckon_39 rfl rfl rfl rfl rfl h (fun r S29 hq hI hr => ?_)
        obtain ⟨v30, rfl, h⟩ := Qi_ok hq
        replace h := h hI (mokI (hr _ rfl))
        clear hq hr
        refine y_if 42 49 Y dX6_reckon_42 rfl rfl (fun c => ?_) (fun c => ?_)
        · replace h := h.1 c
          refine y_aload_n 49 Y dX6_reckon_49 rfl ?_
          refine y_iload_n 50 Y dX6_reckon_50 rfl ?_
          refine y_calls 51 Y (as := [mi a1]) [mt] dX6_reckon_51 rfl rfl rfl rfl rfl h (fun r S31 hq hI hr => ?_)
          obtain ⟨v32, rfl, h⟩ := Qi_ok hq
          replace h := h hI (mokI (hr _ rfl))
          clear hq hr
          refine y_call 54 Y (as := [mi v32]) [] dX6_reckon_54 rfl rfl rfl rfl rfl h (fun r S33 hq hI hr => ?_)
          obtain ⟨v34, rfl, h⟩ := Qi_ok hq
          replace h := h hI (mokI (hr _ rfl))
          clear hq hr
          exact y_iret 57 Y dX6_reckon_57 rfl h
        · replace h := h.2 c
          refine y_iconst 45 Y dX6_reckon_45 rfl ?_
          refine y_goto 46 57 Y dX6_reckon_46 rfl rfl ?_
          exact y_iret 57 Y dX6_reckon_57 rfl h
      · replace h := h.2 c
        refine y_aload_n 22 Y dX6_reckon_22 rfl ?_
        refine y_iload_n 23 Y dX6_reckon_23 rfl ?_
        refine y_calls 24 Y (as := [mi a1]) [mt, mi 1, mt] dX6_reckon_24 rfl rfl rfl rfl rfl h (fun r S35 hq hI hr => ?_)
        obtain ⟨v36, rfl, h⟩ := Qi_ok hq
        replace h := h hI (mokI (hr _ rfl))
        clear hq hr
        refine y_call 27 Y (as := [mi v36]) [mi 1, mt] dX6_reckon_27 rfl rfl rfl rfl rfl h (fun r S37 hq hI hr => ?_)
        obtain ⟨v38, rfl, h⟩ := Qi_ok hq
        replace h := h hI (mokI (hr _ rfl))
        clear hq hr
        refine y_if 30 37 Y dX6_reckon_30 rfl rfl (fun c => ?_) (fun c => ?_)
        · replace h := h.1 c
          refine y_iconst 37 Y dX6_reckon_37 rfl ?_
          refine y_iconst 38 Y dX6_reckon_38 rfl ?_
          refine y_call 39 Y (as := [mi 1, mi 0, mi 0]) [] dX6_reckon_39 rfl rfl rfl rfl rfl h (fun r S39 hq hI hr => ?_)
          obtain ⟨v40, rfl, h⟩ := Qi_ok hq
          replace h := h hI (mokI (hr _ rfl))
          clear hq hr
          refine y_if 42 49 Y dX6_reckon_42 rfl rfl (fun c => ?_) (fun c => ?_)
          · replace h := h.1 c
            refine y_aload_n 49 Y dX6_reckon_49 rfl ?_
            refine y_iload_n 50 Y dX6_reckon_50 rfl ?_
            refine y_calls 51 Y (as := [mi a1]) [mt] dX6_reckon_51 rfl rfl rfl rfl rfl h (fun r S41 hq hI hr => ?_)
            obtain ⟨v42, rfl, h⟩ := Qi_ok hq
            replace h := h hI (mokI (hr _ rfl))
            clear hq hr
            refine y_call 54 Y (as := [mi v42]) [] dX6_reckon_54 rfl rfl rfl rfl rfl h (fun r S43 hq hI hr => ?_)
            obtain ⟨v44, rfl, h⟩ := Qi_ok hq
            replace h := h hI (mokI (hr _ rfl))
            clear hq hr
            exact y_iret 57 Y dX6_reckon_57 rfl h
          · replace h := h.2 c
            refine y_iconst 45 Y dX6_reckon_45 rfl ?_
            refine y_goto 46 57 Y dX6_reckon_46 rfl rfl ?_
            exact y_iret 57 Y dX6_reckon_57 rfl h
        · replace h := h.2 c
          refine y_iconst 33 Y dX6_reckon_33 rfl ?_
          refine y_goto 34 38 Y dX6_reckon_34 rfl rfl ?_
          refine y_iconst 38 Y dX6_reckon_38 rfl ?_
          refine y_call 39 Y (as := [mi 1, mi 1, mi 0]) [] dX6_reckon_39 rfl rfl rfl rfl rfl h (fun r S45 hq hI hr => ?_)
          obtain ⟨v46, rfl, h⟩ := Qi_ok hq
          replace h := h hI (mokI (hr _ rfl))
          clear hq hr
          refine y_if 42 49 Y dX6_reckon_42 rfl rfl (fun c => ?_) (fun c => ?_)
          · replace h := h.1 c
            refine y_aload_n 49 Y dX6_reckon_49 rfl ?_
            refine y_iload_n 50 Y dX6_reckon_50 rfl ?_
            refine y_calls 51 Y (as := [mi a1]) [mt] dX6_reckon_51 rfl rfl rfl rfl rfl h (fun r S47 hq hI hr => ?_)
            obtain ⟨v48, rfl, h⟩ := Qi_ok hq
            replace h := h hI (mokI (hr _ rfl))
            clear hq hr
            refine y_call 54 Y (as := [mi v48]) [] dX6_reckon_54 rfl rfl rfl rfl rfl h (fun r S49 hq hI hr => ?_)
            obtain ⟨v50, rfl, h⟩ := Qi_ok hq
            replace h := h hI (mokI (hr _ rfl))
            clear hq hr
            exact y_iret 57 Y dX6_reckon_57 rfl h
          · replace h := h.2 c
            refine y_iconst 45 Y dX6_reckon_45 rfl ?_
            refine y_goto 46 57 Y dX6_reckon_46 rfl rfl ?_
            exact y_iret 57 Y dX6_reckon_57 rfl h
  · intro n pc L st T hi
    exact hi.elim
set_option maxHeartbeats 4000000 in
theorem of_slope {g : mG} {S : mS} {a1 a2 : Int} {Qp : Option mV → mS → Prop}
    (hE : mI S → (-2147483648 ≤ a1 ∧ a1 ≤ 2147483647) → (-2147483648 ≤ a2 ∧ a2 ≤ 2147483647) → CX_isTree g [mt, mi a1] S (Qi fun v2 S1 => mI S1 → (-2147483648 ≤ v2 ∧ v2 ≤ 2147483647) → ((v2 ≠ 0) → CX_isName g [mi a2] S1 (Qi fun v4 S3 => mI S3 → (-2147483648 ≤ v4 ∧ v4 ≤ 2147483647) → ((v4 ≠ 0) → CX_isTree g [mt, mi a1] S3 (Qi fun v6 S5 => mI S5 → (-2147483648 ≤ v6 ∧ v6 ≤ 2147483647) → ((v6 = 0) → CX_refused g [mt, mi 0, mi 0, mi 0] S5 (Qi fun v8 S7 => mI S7 → (-2147483648 ≤ v8 ∧ v8 ≤ 2147483647) → ((v8 = 0) → CX_shelf g [mi a1] S7 (Qi fun v10 S9 => mI S9 → (-2147483648 ≤ v10 ∧ v10 ≤ 2147483647) → CX_slopes g [mt, mi v10, mi a2] S9 (Qi fun v12 S11 => mI S11 → (-2147483648 ≤ v12 ∧ v12 ≤ 2147483647) → ((v12 ≠ 0) → Qp (some (mi v12)) S11) ∧ (¬ (v12 ≠ 0) → CX_partAt g [mi 0] S11 (Qi fun v14 S13 => mI S13 → (-2147483648 ≤ v14 ∧ v14 ≤ 2147483647) → CX_copyValue g [mt, mi 26, mi v14] S13 (Qv fun S15 => mI S15 → Qp (some (mi v12)) S15)))))) ∧ (¬ (v8 = 0) → Qp (some (mi 0)) S7))) ∧ (¬ (v6 = 0) → CX_shelf g [mi a1] S5 (Qi fun v17 S16 => mI S16 → (-2147483648 ≤ v17 ∧ v17 ≤ 2147483647) → CX_areTold g [mt, mi v17] S16 (Qi fun v19 S18 => mI S18 → (-2147483648 ≤ v19 ∧ v19 ≤ 2147483647) → ((v19 ≠ 0) → CX_refused g [mt, mi 0, mi 0, mi 0] S18 (Qi fun v21 S20 => mI S20 → (-2147483648 ≤ v21 ∧ v21 ≤ 2147483647) → ((v21 = 0) → CX_shelf g [mi a1] S20 (Qi fun v23 S22 => mI S22 → (-2147483648 ≤ v23 ∧ v23 ≤ 2147483647) → CX_slopes g [mt, mi v23, mi a2] S22 (Qi fun v25 S24 => mI S24 → (-2147483648 ≤ v25 ∧ v25 ≤ 2147483647) → ((v25 ≠ 0) → Qp (some (mi v25)) S24) ∧ (¬ (v25 ≠ 0) → CX_partAt g [mi 0] S24 (Qi fun v27 S26 => mI S26 → (-2147483648 ≤ v27 ∧ v27 ≤ 2147483647) → CX_copyValue g [mt, mi 26, mi v27] S26 (Qv fun S28 => mI S28 → Qp (some (mi v25)) S28)))))) ∧ (¬ (v21 = 0) → Qp (some (mi 0)) S20))) ∧ (¬ (v19 ≠ 0) → CX_refused g [mt, mi 0, mi 0, mi 1] S18 (Qi fun v30 S29 => mI S29 → (-2147483648 ≤ v30 ∧ v30 ≤ 2147483647) → ((v30 = 0) → CX_shelf g [mi a1] S29 (Qi fun v32 S31 => mI S31 → (-2147483648 ≤ v32 ∧ v32 ≤ 2147483647) → CX_slopes g [mt, mi v32, mi a2] S31 (Qi fun v34 S33 => mI S33 → (-2147483648 ≤ v34 ∧ v34 ≤ 2147483647) → ((v34 ≠ 0) → Qp (some (mi v34)) S33) ∧ (¬ (v34 ≠ 0) → CX_partAt g [mi 0] S33 (Qi fun v36 S35 => mI S35 → (-2147483648 ≤ v36 ∧ v36 ≤ 2147483647) → CX_copyValue g [mt, mi 26, mi v36] S35 (Qv fun S37 => mI S37 → Qp (some (mi v34)) S37)))))) ∧ (¬ (v30 = 0) → Qp (some (mi 0)) S29)))))))) ∧ (¬ (v4 ≠ 0) → CX_isTree g [mt, mi a1] S3 (Qi fun v39 S38 => mI S38 → (-2147483648 ≤ v39 ∧ v39 ≤ 2147483647) → ((v39 = 0) → CX_refused g [mt, mi 0, mi 1, mi 0] S38 (Qi fun v41 S40 => mI S40 → (-2147483648 ≤ v41 ∧ v41 ≤ 2147483647) → ((v41 = 0) → CX_shelf g [mi a1] S40 (Qi fun v43 S42 => mI S42 → (-2147483648 ≤ v43 ∧ v43 ≤ 2147483647) → CX_slopes g [mt, mi v43, mi a2] S42 (Qi fun v45 S44 => mI S44 → (-2147483648 ≤ v45 ∧ v45 ≤ 2147483647) → ((v45 ≠ 0) → Qp (some (mi v45)) S44) ∧ (¬ (v45 ≠ 0) → CX_partAt g [mi 0] S44 (Qi fun v47 S46 => mI S46 → (-2147483648 ≤ v47 ∧ v47 ≤ 2147483647) → CX_copyValue g [mt, mi 26, mi v47] S46 (Qv fun S48 => mI S48 → Qp (some (mi v45)) S48)))))) ∧ (¬ (v41 = 0) → Qp (some (mi 0)) S40))) ∧ (¬ (v39 = 0) → CX_shelf g [mi a1] S38 (Qi fun v50 S49 => mI S49 → (-2147483648 ≤ v50 ∧ v50 ≤ 2147483647) → CX_areTold g [mt, mi v50] S49 (Qi fun v52 S51 => mI S51 → (-2147483648 ≤ v52 ∧ v52 ≤ 2147483647) → ((v52 ≠ 0) → CX_refused g [mt, mi 0, mi 1, mi 0] S51 (Qi fun v54 S53 => mI S53 → (-2147483648 ≤ v54 ∧ v54 ≤ 2147483647) → ((v54 = 0) → CX_shelf g [mi a1] S53 (Qi fun v56 S55 => mI S55 → (-2147483648 ≤ v56 ∧ v56 ≤ 2147483647) → CX_slopes g [mt, mi v56, mi a2] S55 (Qi fun v58 S57 => mI S57 → (-2147483648 ≤ v58 ∧ v58 ≤ 2147483647) → ((v58 ≠ 0) → Qp (some (mi v58)) S57) ∧ (¬ (v58 ≠ 0) → CX_partAt g [mi 0] S57 (Qi fun v60 S59 => mI S59 → (-2147483648 ≤ v60 ∧ v60 ≤ 2147483647) → CX_copyValue g [mt, mi 26, mi v60] S59 (Qv fun S61 => mI S61 → Qp (some (mi v58)) S61)))))) ∧ (¬ (v54 = 0) → Qp (some (mi 0)) S53))) ∧ (¬ (v52 ≠ 0) → CX_refused g [mt, mi 0, mi 1, mi 1] S51 (Qi fun v63 S62 => mI S62 → (-2147483648 ≤ v63 ∧ v63 ≤ 2147483647) → ((v63 = 0) → CX_shelf g [mi a1] S62 (Qi fun v65 S64 => mI S64 → (-2147483648 ≤ v65 ∧ v65 ≤ 2147483647) → CX_slopes g [mt, mi v65, mi a2] S64 (Qi fun v67 S66 => mI S66 → (-2147483648 ≤ v67 ∧ v67 ≤ 2147483647) → ((v67 ≠ 0) → Qp (some (mi v67)) S66) ∧ (¬ (v67 ≠ 0) → CX_partAt g [mi 0] S66 (Qi fun v69 S68 => mI S68 → (-2147483648 ≤ v69 ∧ v69 ≤ 2147483647) → CX_copyValue g [mt, mi 26, mi v69] S68 (Qv fun S70 => mI S70 → Qp (some (mi v67)) S70)))))) ∧ (¬ (v63 = 0) → Qp (some (mi 0)) S62)))))))))) ∧ (¬ (v2 ≠ 0) → CX_isName g [mi a2] S1 (Qi fun v72 S71 => mI S71 → (-2147483648 ≤ v72 ∧ v72 ≤ 2147483647) → ((v72 ≠ 0) → CX_isTree g [mt, mi a1] S71 (Qi fun v74 S73 => mI S73 → (-2147483648 ≤ v74 ∧ v74 ≤ 2147483647) → ((v74 = 0) → CX_refused g [mt, mi 1, mi 0, mi 0] S73 (Qi fun v76 S75 => mI S75 → (-2147483648 ≤ v76 ∧ v76 ≤ 2147483647) → ((v76 = 0) → CX_shelf g [mi a1] S75 (Qi fun v78 S77 => mI S77 → (-2147483648 ≤ v78 ∧ v78 ≤ 2147483647) → CX_slopes g [mt, mi v78, mi a2] S77 (Qi fun v80 S79 => mI S79 → (-2147483648 ≤ v80 ∧ v80 ≤ 2147483647) → ((v80 ≠ 0) → Qp (some (mi v80)) S79) ∧ (¬ (v80 ≠ 0) → CX_partAt g [mi 0] S79 (Qi fun v82 S81 => mI S81 → (-2147483648 ≤ v82 ∧ v82 ≤ 2147483647) → CX_copyValue g [mt, mi 26, mi v82] S81 (Qv fun S83 => mI S83 → Qp (some (mi v80)) S83)))))) ∧ (¬ (v76 = 0) → Qp (some (mi 0)) S75))) ∧ (¬ (v74 = 0) → CX_shelf g [mi a1] S73 (Qi fun v85 S84 => mI S84 → (-2147483648 ≤ v85 ∧ v85 ≤ 2147483647) → CX_areTold g [mt, mi v85] S84 (Qi fun v87 S86 => mI S86 → (-2147483648 ≤ v87 ∧ v87 ≤ 2147483647) → ((v87 ≠ 0) → CX_refused g [mt, mi 1, mi 0, mi 0] S86 (Qi fun v89 S88 => mI S88 → (-2147483648 ≤ v89 ∧ v89 ≤ 2147483647) → ((v89 = 0) → CX_shelf g [mi a1] S88 (Qi fun v91 S90 => mI S90 → (-2147483648 ≤ v91 ∧ v91 ≤ 2147483647) → CX_slopes g [mt, mi v91, mi a2] S90 (Qi fun v93 S92 => mI S92 → (-2147483648 ≤ v93 ∧ v93 ≤ 2147483647) → ((v93 ≠ 0) → Qp (some (mi v93)) S92) ∧ (¬ (v93 ≠ 0) → CX_partAt g [mi 0] S92 (Qi fun v95 S94 => mI S94 → (-2147483648 ≤ v95 ∧ v95 ≤ 2147483647) → CX_copyValue g [mt, mi 26, mi v95] S94 (Qv fun S96 => mI S96 → Qp (some (mi v93)) S96)))))) ∧ (¬ (v89 = 0) → Qp (some (mi 0)) S88))) ∧ (¬ (v87 ≠ 0) → CX_refused g [mt, mi 1, mi 0, mi 1] S86 (Qi fun v98 S97 => mI S97 → (-2147483648 ≤ v98 ∧ v98 ≤ 2147483647) → ((v98 = 0) → CX_shelf g [mi a1] S97 (Qi fun v100 S99 => mI S99 → (-2147483648 ≤ v100 ∧ v100 ≤ 2147483647) → CX_slopes g [mt, mi v100, mi a2] S99 (Qi fun v102 S101 => mI S101 → (-2147483648 ≤ v102 ∧ v102 ≤ 2147483647) → ((v102 ≠ 0) → Qp (some (mi v102)) S101) ∧ (¬ (v102 ≠ 0) → CX_partAt g [mi 0] S101 (Qi fun v104 S103 => mI S103 → (-2147483648 ≤ v104 ∧ v104 ≤ 2147483647) → CX_copyValue g [mt, mi 26, mi v104] S103 (Qv fun S105 => mI S105 → Qp (some (mi v102)) S105)))))) ∧ (¬ (v98 = 0) → Qp (some (mi 0)) S97)))))))) ∧ (¬ (v72 ≠ 0) → CX_isTree g [mt, mi a1] S71 (Qi fun v107 S106 => mI S106 → (-2147483648 ≤ v107 ∧ v107 ≤ 2147483647) → ((v107 = 0) → CX_refused g [mt, mi 1, mi 1, mi 0] S106 (Qi fun v109 S108 => mI S108 → (-2147483648 ≤ v109 ∧ v109 ≤ 2147483647) → ((v109 = 0) → CX_shelf g [mi a1] S108 (Qi fun v111 S110 => mI S110 → (-2147483648 ≤ v111 ∧ v111 ≤ 2147483647) → CX_slopes g [mt, mi v111, mi a2] S110 (Qi fun v113 S112 => mI S112 → (-2147483648 ≤ v113 ∧ v113 ≤ 2147483647) → ((v113 ≠ 0) → Qp (some (mi v113)) S112) ∧ (¬ (v113 ≠ 0) → CX_partAt g [mi 0] S112 (Qi fun v115 S114 => mI S114 → (-2147483648 ≤ v115 ∧ v115 ≤ 2147483647) → CX_copyValue g [mt, mi 26, mi v115] S114 (Qv fun S116 => mI S116 → Qp (some (mi v113)) S116)))))) ∧ (¬ (v109 = 0) → Qp (some (mi 0)) S108))) ∧ (¬ (v107 = 0) → CX_shelf g [mi a1] S106 (Qi fun v118 S117 => mI S117 → (-2147483648 ≤ v118 ∧ v118 ≤ 2147483647) → CX_areTold g [mt, mi v118] S117 (Qi fun v120 S119 => mI S119 → (-2147483648 ≤ v120 ∧ v120 ≤ 2147483647) → ((v120 ≠ 0) → CX_refused g [mt, mi 1, mi 1, mi 0] S119 (Qi fun v122 S121 => mI S121 → (-2147483648 ≤ v122 ∧ v122 ≤ 2147483647) → ((v122 = 0) → CX_shelf g [mi a1] S121 (Qi fun v124 S123 => mI S123 → (-2147483648 ≤ v124 ∧ v124 ≤ 2147483647) → CX_slopes g [mt, mi v124, mi a2] S123 (Qi fun v126 S125 => mI S125 → (-2147483648 ≤ v126 ∧ v126 ≤ 2147483647) → ((v126 ≠ 0) → Qp (some (mi v126)) S125) ∧ (¬ (v126 ≠ 0) → CX_partAt g [mi 0] S125 (Qi fun v128 S127 => mI S127 → (-2147483648 ≤ v128 ∧ v128 ≤ 2147483647) → CX_copyValue g [mt, mi 26, mi v128] S127 (Qv fun S129 => mI S129 → Qp (some (mi v126)) S129)))))) ∧ (¬ (v122 = 0) → Qp (some (mi 0)) S121))) ∧ (¬ (v120 ≠ 0) → CX_refused g [mt, mi 1, mi 1, mi 1] S119 (Qi fun v131 S130 => mI S130 → (-2147483648 ≤ v131 ∧ v131 ≤ 2147483647) → ((v131 = 0) → CX_shelf g [mi a1] S130 (Qi fun v133 S132 => mI S132 → (-2147483648 ≤ v133 ∧ v133 ≤ 2147483647) → CX_slopes g [mt, mi v133, mi a2] S132 (Qi fun v135 S134 => mI S134 → (-2147483648 ≤ v135 ∧ v135 ≤ 2147483647) → ((v135 ≠ 0) → Qp (some (mi v135)) S134) ∧ (¬ (v135 ≠ 0) → CX_partAt g [mi 0] S134 (Qi fun v137 S136 => mI S136 → (-2147483648 ≤ v137 ∧ v137 ≤ 2147483647) → CX_copyValue g [mt, mi 26, mi v137] S136 (Qv fun S138 => mI S138 → Qp (some (mi v135)) S138)))))) ∧ (¬ (v131 = 0) → Qp (some (mi 0)) S130))))))))))))
    : CX_slope g [mt, mi a1, mi a2] S Qp := by
  refine cm_y ⟨by decide, rfl⟩ (by simp [mcat]) (by simp) (fun _ _ _ _ _ => False) ?_ ?_
  · intro ha hS P Y Wk hIc
    have h := hE hS (mokI (ha (mi a1) (by simp))) (mokI (ha (mi a2) (by simp)))
    clear hE ha
    refine y_aload_n 0 Y dX6_slope_0 rfl ?_
    refine y_aload_n 1 Y dX6_slope_1 rfl ?_
    refine y_iload_n 2 Y dX6_slope_2 rfl ?_
    refine y_call 3 Y (as := [mi a1]) [mt] dX6_slope_3 rfl rfl rfl rfl rfl h (fun r S1 hq hI hr => ?_)
    obtain ⟨v2, rfl, h⟩ := Qi_ok hq
    replace h := h hI (mokI (hr _ rfl))
    clear hq hr
    refine y_if 6 13 Y dX6_slope_6 rfl rfl (fun c => ?_) (fun c => ?_)
    · replace h := h.1 c
      refine y_iconst 13 Y dX6_slope_13 rfl ?_
      refine y_iload_n 14 Y dX6_slope_14 rfl ?_
      refine y_calls 15 Y (as := [mi a2]) [mi 0, mt] dX6_slope_15 rfl rfl rfl rfl rfl h (fun r S3 hq hI hr => ?_)
      obtain ⟨v4, rfl, h⟩ := Qi_ok hq
      replace h := h hI (mokI (hr _ rfl))
      clear hq hr
      refine y_if 18 25 Y dX6_slope_18 rfl rfl (fun c => ?_) (fun c => ?_)
      · replace h := h.1 c
        refine y_iconst 25 Y dX6_slope_25 rfl ?_
        refine y_aload_n 26 Y dX6_slope_26 rfl ?_
        refine y_iload_n 27 Y dX6_slope_27 rfl ?_
        refine y_call 28 Y (as := [mi a1]) [mi 0, mi 0, mt] dX6_slope_28 rfl rfl rfl rfl rfl h (fun r S5 hq hI hr => ?_)
        obtain ⟨v6, rfl, h⟩ := Qi_ok hq
        replace h := h hI (mokI (hr _ rfl))
        clear hq hr
        refine y_if 31 49 Y dX6_slope_31 rfl rfl (fun c => ?_) (fun c => ?_)
        · replace h := h.1 c
          refine y_iconst 49 Y dX6_slope_49 rfl ?_
          refine y_call 50 Y (as := [mi 0, mi 0, mi 0]) [] dX6_slope_50 rfl rfl rfl rfl rfl h (fun r S7 hq hI hr => ?_)
          obtain ⟨v8, rfl, h⟩ := Qi_ok hq
          replace h := h hI (mokI (hr _ rfl))
          clear hq hr
          refine y_if 53 58 Y dX6_slope_53 rfl rfl (fun c => ?_) (fun c => ?_)
          · replace h := h.1 c
            refine y_aload_n 58 Y dX6_slope_58 rfl ?_
            refine y_iload_n 59 Y dX6_slope_59 rfl ?_
            refine y_calls 60 Y (as := [mi a1]) [mt] dX6_slope_60 rfl rfl rfl rfl rfl h (fun r S9 hq hI hr => ?_)
            obtain ⟨v10, rfl, h⟩ := Qi_ok hq
            replace h := h hI (mokI (hr _ rfl))
            clear hq hr
            refine y_iload_n 63 Y dX6_slope_63 rfl ?_
            refine y_call 64 Y (as := [mi v10, mi a2]) [] dX6_slope_64 rfl rfl rfl rfl rfl h (fun r S11 hq hI hr => ?_)
            obtain ⟨v12, rfl, h⟩ := Qi_ok hq
            replace h := h hI (mokI (hr _ rfl))
            clear hq hr
            refine y_istore_n 67 Y [some mt, some (mi a1), some (mi a2), some (mi v12)] dX6_slope_67 rfl rfl ?_
            refine y_iload_n 68 Y dX6_slope_68 rfl ?_
            refine y_if 69 82 Y dX6_slope_69 rfl rfl (fun c => ?_) (fun c => ?_)
            · replace h := h.1 c
              refine y_iload_n 82 Y dX6_slope_82 rfl ?_
              exact y_iret 83 Y dX6_slope_83 rfl h
            · replace h := h.2 c
              refine y_aload_n 72 Y dX6_slope_72 rfl ?_
              refine y_bipush 73 Y dX6_slope_73 rfl ?_
              refine y_iconst 75 Y dX6_slope_75 rfl ?_
              refine y_calls 76 Y (as := [mi 0]) [mi 26, mt] dX6_slope_76 rfl rfl rfl rfl rfl h (fun r S13 hq hI hr => ?_)
              obtain ⟨v14, rfl, h⟩ := Qi_ok hq
              replace h := h hI (mokI (hr _ rfl))
              clear hq hr
              refine y_call 79 Y (as := [mi 26, mi v14]) [] dX6_slope_79 rfl rfl rfl rfl rfl h (fun r S15 hq hI _ => ?_)
              obtain ⟨rfl, h⟩ := Qv_ok hq
              replace h := h hI
              clear hq
              refine y_iload_n 82 Y dX6_slope_82 rfl ?_
              exact y_iret 83 Y dX6_slope_83 rfl h
          · replace h := h.2 c
            refine y_iconst 56 Y dX6_slope_56 rfl ?_
            exact y_iret 57 Y dX6_slope_57 rfl h
        · replace h := h.2 c
          refine y_aload_n 34 Y dX6_slope_34 rfl ?_
          refine y_iload_n 35 Y dX6_slope_35 rfl ?_
          refine y_calls 36 Y (as := [mi a1]) [mt, mi 0, mi 0, mt] dX6_slope_36 rfl rfl rfl rfl rfl h (fun r S16 hq hI hr => ?_)
          obtain ⟨v17, rfl, h⟩ := Qi_ok hq
          replace h := h hI (mokI (hr _ rfl))
          clear hq hr
          refine y_call 39 Y (as := [mi v17]) [mi 0, mi 0, mt] dX6_slope_39 rfl rfl rfl rfl rfl h (fun r S18 hq hI hr => ?_)
          obtain ⟨v19, rfl, h⟩ := Qi_ok hq
          replace h := h hI (mokI (hr _ rfl))
          clear hq hr
          refine y_if 42 49 Y dX6_slope_42 rfl rfl (fun c => ?_) (fun c => ?_)
          · replace h := h.1 c
            refine y_iconst 49 Y dX6_slope_49 rfl ?_
            refine y_call 50 Y (as := [mi 0, mi 0, mi 0]) [] dX6_slope_50 rfl rfl rfl rfl rfl h (fun r S20 hq hI hr => ?_)
            obtain ⟨v21, rfl, h⟩ := Qi_ok hq
            replace h := h hI (mokI (hr _ rfl))
            clear hq hr
            refine y_if 53 58 Y dX6_slope_53 rfl rfl (fun c => ?_) (fun c => ?_)
            · replace h := h.1 c
              refine y_aload_n 58 Y dX6_slope_58 rfl ?_
              refine y_iload_n 59 Y dX6_slope_59 rfl ?_
              refine y_calls 60 Y (as := [mi a1]) [mt] dX6_slope_60 rfl rfl rfl rfl rfl h (fun r S22 hq hI hr => ?_)
              obtain ⟨v23, rfl, h⟩ := Qi_ok hq
              replace h := h hI (mokI (hr _ rfl))
              clear hq hr
              refine y_iload_n 63 Y dX6_slope_63 rfl ?_
              refine y_call 64 Y (as := [mi v23, mi a2]) [] dX6_slope_64 rfl rfl rfl rfl rfl h (fun r S24 hq hI hr => ?_)
              obtain ⟨v25, rfl, h⟩ := Qi_ok hq
              replace h := h hI (mokI (hr _ rfl))
              clear hq hr
              refine y_istore_n 67 Y [some mt, some (mi a1), some (mi a2), some (mi v25)] dX6_slope_67 rfl rfl ?_
              refine y_iload_n 68 Y dX6_slope_68 rfl ?_
              refine y_if 69 82 Y dX6_slope_69 rfl rfl (fun c => ?_) (fun c => ?_)
              · replace h := h.1 c
                refine y_iload_n 82 Y dX6_slope_82 rfl ?_
                exact y_iret 83 Y dX6_slope_83 rfl h
              · replace h := h.2 c
                refine y_aload_n 72 Y dX6_slope_72 rfl ?_
                refine y_bipush 73 Y dX6_slope_73 rfl ?_
                refine y_iconst 75 Y dX6_slope_75 rfl ?_
                refine y_calls 76 Y (as := [mi 0]) [mi 26, mt] dX6_slope_76 rfl rfl rfl rfl rfl h (fun r S26 hq hI hr => ?_)
                obtain ⟨v27, rfl, h⟩ := Qi_ok hq
                replace h := h hI (mokI (hr _ rfl))
                clear hq hr
                refine y_call 79 Y (as := [mi 26, mi v27]) [] dX6_slope_79 rfl rfl rfl rfl rfl h (fun r S28 hq hI _ => ?_)
                obtain ⟨rfl, h⟩ := Qv_ok hq
                replace h := h hI
                clear hq
                refine y_iload_n 82 Y dX6_slope_82 rfl ?_
                exact y_iret 83 Y dX6_slope_83 rfl h
            · replace h := h.2 c
              refine y_iconst 56 Y dX6_slope_56 rfl ?_
              exact y_iret 57 Y dX6_slope_57 rfl h
          · replace h := h.2 c
            refine y_iconst 45 Y dX6_slope_45 rfl ?_
            refine y_goto 46 50 Y dX6_slope_46 rfl rfl ?_
            refine y_call 50 Y (as := [mi 0, mi 0, mi 1]) [] dX6_slope_50 rfl rfl rfl rfl rfl h (fun r S29 hq hI hr => ?_)
            obtain ⟨v30, rfl, h⟩ := Qi_ok hq
            replace h := h hI (mokI (hr _ rfl))
            clear hq hr
            refine y_if 53 58 Y dX6_slope_53 rfl rfl (fun c => ?_) (fun c => ?_)
            · replace h := h.1 c
              refine y_aload_n 58 Y dX6_slope_58 rfl ?_
              refine y_iload_n 59 Y dX6_slope_59 rfl ?_
              refine y_calls 60 Y (as := [mi a1]) [mt] dX6_slope_60 rfl rfl rfl rfl rfl h (fun r S31 hq hI hr => ?_)
              obtain ⟨v32, rfl, h⟩ := Qi_ok hq
              replace h := h hI (mokI (hr _ rfl))
              clear hq hr
              refine y_iload_n 63 Y dX6_slope_63 rfl ?_
              refine y_call 64 Y (as := [mi v32, mi a2]) [] dX6_slope_64 rfl rfl rfl rfl rfl h (fun r S33 hq hI hr => ?_)
              obtain ⟨v34, rfl, h⟩ := Qi_ok hq
              replace h := h hI (mokI (hr _ rfl))
              clear hq hr
              refine y_istore_n 67 Y [some mt, some (mi a1), some (mi a2), some (mi v34)] dX6_slope_67 rfl rfl ?_
              refine y_iload_n 68 Y dX6_slope_68 rfl ?_
              refine y_if 69 82 Y dX6_slope_69 rfl rfl (fun c => ?_) (fun c => ?_)
              · replace h := h.1 c
                refine y_iload_n 82 Y dX6_slope_82 rfl ?_
                exact y_iret 83 Y dX6_slope_83 rfl h
              · replace h := h.2 c
                refine y_aload_n 72 Y dX6_slope_72 rfl ?_
                refine y_bipush 73 Y dX6_slope_73 rfl ?_
                refine y_iconst 75 Y dX6_slope_75 rfl ?_
                refine y_calls 76 Y (as := [mi 0]) [mi 26, mt] dX6_slope_76 rfl rfl rfl rfl rfl h (fun r S35 hq hI hr => ?_)
                obtain ⟨v36, rfl, h⟩ := Qi_ok hq
                replace h := h hI (mokI (hr _ rfl))
                clear hq hr
                refine y_call 79 Y (as := [mi 26, mi v36]) [] dX6_slope_79 rfl rfl rfl rfl rfl h (fun r S37 hq hI _ => ?_)
                obtain ⟨rfl, h⟩ := Qv_ok hq
                replace h := h hI
                clear hq
                refine y_iload_n 82 Y dX6_slope_82 rfl ?_
                exact y_iret 83 Y dX6_slope_83 rfl h
            · replace h := h.2 c
              refine y_iconst 56 Y dX6_slope_56 rfl ?_
              exact y_iret 57 Y dX6_slope_57 rfl h
      · replace h := h.2 c
        refine y_iconst 21 Y dX6_slope_21 rfl ?_
        refine y_goto 22 26 Y dX6_slope_22 rfl rfl ?_
        refine y_aload_n 26 Y dX6_slope_26 rfl ?_
        refine y_iload_n 27 Y dX6_slope_27 rfl ?_
        refine y_call 28 Y (as := [mi a1]) [mi 1, mi 0, mt] dX6_slope_28 rfl rfl rfl rfl rfl h (fun r S38 hq hI hr => ?_)
        obtain ⟨v39, rfl, h⟩ := Qi_ok hq
        replace h := h hI (mokI (hr _ rfl))
        clear hq hr
        refine y_if 31 49 Y dX6_slope_31 rfl rfl (fun c => ?_) (fun c => ?_)
        · replace h := h.1 c
          refine y_iconst 49 Y dX6_slope_49 rfl ?_
          refine y_call 50 Y (as := [mi 0, mi 1, mi 0]) [] dX6_slope_50 rfl rfl rfl rfl rfl h (fun r S40 hq hI hr => ?_)
          obtain ⟨v41, rfl, h⟩ := Qi_ok hq
          replace h := h hI (mokI (hr _ rfl))
          clear hq hr
          refine y_if 53 58 Y dX6_slope_53 rfl rfl (fun c => ?_) (fun c => ?_)
          · replace h := h.1 c
            refine y_aload_n 58 Y dX6_slope_58 rfl ?_
            refine y_iload_n 59 Y dX6_slope_59 rfl ?_
            refine y_calls 60 Y (as := [mi a1]) [mt] dX6_slope_60 rfl rfl rfl rfl rfl h (fun r S42 hq hI hr => ?_)
            obtain ⟨v43, rfl, h⟩ := Qi_ok hq
            replace h := h hI (mokI (hr _ rfl))
            clear hq hr
            refine y_iload_n 63 Y dX6_slope_63 rfl ?_
            refine y_call 64 Y (as := [mi v43, mi a2]) [] dX6_slope_64 rfl rfl rfl rfl rfl h (fun r S44 hq hI hr => ?_)
            obtain ⟨v45, rfl, h⟩ := Qi_ok hq
            replace h := h hI (mokI (hr _ rfl))
            clear hq hr
            refine y_istore_n 67 Y [some mt, some (mi a1), some (mi a2), some (mi v45)] dX6_slope_67 rfl rfl ?_
            refine y_iload_n 68 Y dX6_slope_68 rfl ?_
            refine y_if 69 82 Y dX6_slope_69 rfl rfl (fun c => ?_) (fun c => ?_)
            · replace h := h.1 c
              refine y_iload_n 82 Y dX6_slope_82 rfl ?_
              exact y_iret 83 Y dX6_slope_83 rfl h
            · replace h := h.2 c
              refine y_aload_n 72 Y dX6_slope_72 rfl ?_
              refine y_bipush 73 Y dX6_slope_73 rfl ?_
              refine y_iconst 75 Y dX6_slope_75 rfl ?_
              refine y_calls 76 Y (as := [mi 0]) [mi 26, mt] dX6_slope_76 rfl rfl rfl rfl rfl h (fun r S46 hq hI hr => ?_)
              obtain ⟨v47, rfl, h⟩ := Qi_ok hq
              replace h := h hI (mokI (hr _ rfl))
              clear hq hr
              refine y_call 79 Y (as := [mi 26, mi v47]) [] dX6_slope_79 rfl rfl rfl rfl rfl h (fun r S48 hq hI _ => ?_)
              obtain ⟨rfl, h⟩ := Qv_ok hq
              replace h := h hI
              clear hq
              refine y_iload_n 82 Y dX6_slope_82 rfl ?_
              exact y_iret 83 Y dX6_slope_83 rfl h
          · replace h := h.2 c
            refine y_iconst 56 Y dX6_slope_56 rfl ?_
            exact y_iret 57 Y dX6_slope_57 rfl h
        · replace h := h.2 c
          refine y_aload_n 34 Y dX6_slope_34 rfl ?_
          refine y_iload_n 35 Y dX6_slope_35 rfl ?_
          refine y_calls 36 Y (as := [mi a1]) [mt, mi 1, mi 0, mt] dX6_slope_36 rfl rfl rfl rfl rfl h (fun r S49 hq hI hr => ?_)
          obtain ⟨v50, rfl, h⟩ := Qi_ok hq
          replace h := h hI (mokI (hr _ rfl))
          clear hq hr
          refine y_call 39 Y (as := [mi v50]) [mi 1, mi 0, mt] dX6_slope_39 rfl rfl rfl rfl rfl h (fun r S51 hq hI hr => ?_)
          obtain ⟨v52, rfl, h⟩ := Qi_ok hq
          replace h := h hI (mokI (hr _ rfl))
          clear hq hr
          refine y_if 42 49 Y dX6_slope_42 rfl rfl (fun c => ?_) (fun c => ?_)
          · replace h := h.1 c
            refine y_iconst 49 Y dX6_slope_49 rfl ?_
            refine y_call 50 Y (as := [mi 0, mi 1, mi 0]) [] dX6_slope_50 rfl rfl rfl rfl rfl h (fun r S53 hq hI hr => ?_)
            obtain ⟨v54, rfl, h⟩ := Qi_ok hq
            replace h := h hI (mokI (hr _ rfl))
            clear hq hr
            refine y_if 53 58 Y dX6_slope_53 rfl rfl (fun c => ?_) (fun c => ?_)
            · replace h := h.1 c
              refine y_aload_n 58 Y dX6_slope_58 rfl ?_
              refine y_iload_n 59 Y dX6_slope_59 rfl ?_
              refine y_calls 60 Y (as := [mi a1]) [mt] dX6_slope_60 rfl rfl rfl rfl rfl h (fun r S55 hq hI hr => ?_)
              obtain ⟨v56, rfl, h⟩ := Qi_ok hq
              replace h := h hI (mokI (hr _ rfl))
              clear hq hr
              refine y_iload_n 63 Y dX6_slope_63 rfl ?_
              refine y_call 64 Y (as := [mi v56, mi a2]) [] dX6_slope_64 rfl rfl rfl rfl rfl h (fun r S57 hq hI hr => ?_)
              obtain ⟨v58, rfl, h⟩ := Qi_ok hq
              replace h := h hI (mokI (hr _ rfl))
              clear hq hr
              refine y_istore_n 67 Y [some mt, some (mi a1), some (mi a2), some (mi v58)] dX6_slope_67 rfl rfl ?_
              refine y_iload_n 68 Y dX6_slope_68 rfl ?_
              refine y_if 69 82 Y dX6_slope_69 rfl rfl (fun c => ?_) (fun c => ?_)
              · replace h := h.1 c
                refine y_iload_n 82 Y dX6_slope_82 rfl ?_
                exact y_iret 83 Y dX6_slope_83 rfl h
              · replace h := h.2 c
                refine y_aload_n 72 Y dX6_slope_72 rfl ?_
                refine y_bipush 73 Y dX6_slope_73 rfl ?_
                refine y_iconst 75 Y dX6_slope_75 rfl ?_
                refine y_calls 76 Y (as := [mi 0]) [mi 26, mt] dX6_slope_76 rfl rfl rfl rfl rfl h (fun r S59 hq hI hr => ?_)
                obtain ⟨v60, rfl, h⟩ := Qi_ok hq
                replace h := h hI (mokI (hr _ rfl))
                clear hq hr
                refine y_call 79 Y (as := [mi 26, mi v60]) [] dX6_slope_79 rfl rfl rfl rfl rfl h (fun r S61 hq hI _ => ?_)
                obtain ⟨rfl, h⟩ := Qv_ok hq
                replace h := h hI
                clear hq
                refine y_iload_n 82 Y dX6_slope_82 rfl ?_
                exact y_iret 83 Y dX6_slope_83 rfl h
            · replace h := h.2 c
              refine y_iconst 56 Y dX6_slope_56 rfl ?_
              exact y_iret 57 Y dX6_slope_57 rfl h
          · replace h := h.2 c
            refine y_iconst 45 Y dX6_slope_45 rfl ?_
            refine y_goto 46 50 Y dX6_slope_46 rfl rfl ?_
            refine y_call 50 Y (as := [mi 0, mi 1, mi 1]) [] dX6_slope_50 rfl rfl rfl rfl rfl h (fun r S62 hq hI hr => ?_)
            obtain ⟨v63, rfl, h⟩ := Qi_ok hq
            replace h := h hI (mokI (hr _ rfl))
            clear hq hr
            refine y_if 53 58 Y dX6_slope_53 rfl rfl (fun c => ?_) (fun c => ?_)
            · replace h := h.1 c
              refine y_aload_n 58 Y dX6_slope_58 rfl ?_
              refine y_iload_n 59 Y dX6_slope_59 rfl ?_
              refine y_calls 60 Y (as := [mi a1]) [mt] dX6_slope_60 rfl rfl rfl rfl rfl h (fun r S64 hq hI hr => ?_)
              obtain ⟨v65, rfl, h⟩ := Qi_ok hq
              replace h := h hI (mokI (hr _ rfl))
              clear hq hr
              refine y_iload_n 63 Y dX6_slope_63 rfl ?_
              refine y_call 64 Y (as := [mi v65, mi a2]) [] dX6_slope_64 rfl rfl rfl rfl rfl h (fun r S66 hq hI hr => ?_)
              obtain ⟨v67, rfl, h⟩ := Qi_ok hq
              replace h := h hI (mokI (hr _ rfl))
              clear hq hr
              refine y_istore_n 67 Y [some mt, some (mi a1), some (mi a2), some (mi v67)] dX6_slope_67 rfl rfl ?_
              refine y_iload_n 68 Y dX6_slope_68 rfl ?_
              refine y_if 69 82 Y dX6_slope_69 rfl rfl (fun c => ?_) (fun c => ?_)
              · replace h := h.1 c
                refine y_iload_n 82 Y dX6_slope_82 rfl ?_
                exact y_iret 83 Y dX6_slope_83 rfl h
              · replace h := h.2 c
                refine y_aload_n 72 Y dX6_slope_72 rfl ?_
                refine y_bipush 73 Y dX6_slope_73 rfl ?_
                refine y_iconst 75 Y dX6_slope_75 rfl ?_
                refine y_calls 76 Y (as := [mi 0]) [mi 26, mt] dX6_slope_76 rfl rfl rfl rfl rfl h (fun r S68 hq hI hr => ?_)
                obtain ⟨v69, rfl, h⟩ := Qi_ok hq
                replace h := h hI (mokI (hr _ rfl))
                clear hq hr
                refine y_call 79 Y (as := [mi 26, mi v69]) [] dX6_slope_79 rfl rfl rfl rfl rfl h (fun r S70 hq hI _ => ?_)
                obtain ⟨rfl, h⟩ := Qv_ok hq
                replace h := h hI
                clear hq
                refine y_iload_n 82 Y dX6_slope_82 rfl ?_
                exact y_iret 83 Y dX6_slope_83 rfl h
            · replace h := h.2 c
              refine y_iconst 56 Y dX6_slope_56 rfl ?_
              exact y_iret 57 Y dX6_slope_57 rfl h
    · replace h := h.2 c
      refine y_iconst 9 Y dX6_slope_9 rfl ?_
      refine y_goto 10 14 Y dX6_slope_10 rfl rfl ?_
      refine y_iload_n 14 Y dX6_slope_14 rfl ?_
      refine y_calls 15 Y (as := [mi a2]) [mi 1, mt] dX6_slope_15 rfl rfl rfl rfl rfl h (fun r S71 hq hI hr => ?_)
      obtain ⟨v72, rfl, h⟩ := Qi_ok hq
      replace h := h hI (mokI (hr _ rfl))
      clear hq hr
      refine y_if 18 25 Y dX6_slope_18 rfl rfl (fun c => ?_) (fun c => ?_)
      · replace h := h.1 c
        refine y_iconst 25 Y dX6_slope_25 rfl ?_
        refine y_aload_n 26 Y dX6_slope_26 rfl ?_
        refine y_iload_n 27 Y dX6_slope_27 rfl ?_
        refine y_call 28 Y (as := [mi a1]) [mi 0, mi 1, mt] dX6_slope_28 rfl rfl rfl rfl rfl h (fun r S73 hq hI hr => ?_)
        obtain ⟨v74, rfl, h⟩ := Qi_ok hq
        replace h := h hI (mokI (hr _ rfl))
        clear hq hr
        refine y_if 31 49 Y dX6_slope_31 rfl rfl (fun c => ?_) (fun c => ?_)
        · replace h := h.1 c
          refine y_iconst 49 Y dX6_slope_49 rfl ?_
          refine y_call 50 Y (as := [mi 1, mi 0, mi 0]) [] dX6_slope_50 rfl rfl rfl rfl rfl h (fun r S75 hq hI hr => ?_)
          obtain ⟨v76, rfl, h⟩ := Qi_ok hq
          replace h := h hI (mokI (hr _ rfl))
          clear hq hr
          refine y_if 53 58 Y dX6_slope_53 rfl rfl (fun c => ?_) (fun c => ?_)
          · replace h := h.1 c
            refine y_aload_n 58 Y dX6_slope_58 rfl ?_
            refine y_iload_n 59 Y dX6_slope_59 rfl ?_
            refine y_calls 60 Y (as := [mi a1]) [mt] dX6_slope_60 rfl rfl rfl rfl rfl h (fun r S77 hq hI hr => ?_)
            obtain ⟨v78, rfl, h⟩ := Qi_ok hq
            replace h := h hI (mokI (hr _ rfl))
            clear hq hr
            refine y_iload_n 63 Y dX6_slope_63 rfl ?_
            refine y_call 64 Y (as := [mi v78, mi a2]) [] dX6_slope_64 rfl rfl rfl rfl rfl h (fun r S79 hq hI hr => ?_)
            obtain ⟨v80, rfl, h⟩ := Qi_ok hq
            replace h := h hI (mokI (hr _ rfl))
            clear hq hr
            refine y_istore_n 67 Y [some mt, some (mi a1), some (mi a2), some (mi v80)] dX6_slope_67 rfl rfl ?_
            refine y_iload_n 68 Y dX6_slope_68 rfl ?_
            refine y_if 69 82 Y dX6_slope_69 rfl rfl (fun c => ?_) (fun c => ?_)
            · replace h := h.1 c
              refine y_iload_n 82 Y dX6_slope_82 rfl ?_
              exact y_iret 83 Y dX6_slope_83 rfl h
            · replace h := h.2 c
              refine y_aload_n 72 Y dX6_slope_72 rfl ?_
              refine y_bipush 73 Y dX6_slope_73 rfl ?_
              refine y_iconst 75 Y dX6_slope_75 rfl ?_
              refine y_calls 76 Y (as := [mi 0]) [mi 26, mt] dX6_slope_76 rfl rfl rfl rfl rfl h (fun r S81 hq hI hr => ?_)
              obtain ⟨v82, rfl, h⟩ := Qi_ok hq
              replace h := h hI (mokI (hr _ rfl))
              clear hq hr
              refine y_call 79 Y (as := [mi 26, mi v82]) [] dX6_slope_79 rfl rfl rfl rfl rfl h (fun r S83 hq hI _ => ?_)
              obtain ⟨rfl, h⟩ := Qv_ok hq
              replace h := h hI
              clear hq
              refine y_iload_n 82 Y dX6_slope_82 rfl ?_
              exact y_iret 83 Y dX6_slope_83 rfl h
          · replace h := h.2 c
            refine y_iconst 56 Y dX6_slope_56 rfl ?_
            exact y_iret 57 Y dX6_slope_57 rfl h
        · replace h := h.2 c
          refine y_aload_n 34 Y dX6_slope_34 rfl ?_
          refine y_iload_n 35 Y dX6_slope_35 rfl ?_
          refine y_calls 36 Y (as := [mi a1]) [mt, mi 0, mi 1, mt] dX6_slope_36 rfl rfl rfl rfl rfl h (fun r S84 hq hI hr => ?_)
          obtain ⟨v85, rfl, h⟩ := Qi_ok hq
          replace h := h hI (mokI (hr _ rfl))
          clear hq hr
          refine y_call 39 Y (as := [mi v85]) [mi 0, mi 1, mt] dX6_slope_39 rfl rfl rfl rfl rfl h (fun r S86 hq hI hr => ?_)
          obtain ⟨v87, rfl, h⟩ := Qi_ok hq
          replace h := h hI (mokI (hr _ rfl))
          clear hq hr
          refine y_if 42 49 Y dX6_slope_42 rfl rfl (fun c => ?_) (fun c => ?_)
          · replace h := h.1 c
            refine y_iconst 49 Y dX6_slope_49 rfl ?_
            refine y_call 50 Y (as := [mi 1, mi 0, mi 0]) [] dX6_slope_50 rfl rfl rfl rfl rfl h (fun r S88 hq hI hr => ?_)
            obtain ⟨v89, rfl, h⟩ := Qi_ok hq
            replace h := h hI (mokI (hr _ rfl))
            clear hq hr
            refine y_if 53 58 Y dX6_slope_53 rfl rfl (fun c => ?_) (fun c => ?_)
            · replace h := h.1 c
              refine y_aload_n 58 Y dX6_slope_58 rfl ?_
              refine y_iload_n 59 Y dX6_slope_59 rfl ?_
              refine y_calls 60 Y (as := [mi a1]) [mt] dX6_slope_60 rfl rfl rfl rfl rfl h (fun r S90 hq hI hr => ?_)
              obtain ⟨v91, rfl, h⟩ := Qi_ok hq
              replace h := h hI (mokI (hr _ rfl))
              clear hq hr
              refine y_iload_n 63 Y dX6_slope_63 rfl ?_
              refine y_call 64 Y (as := [mi v91, mi a2]) [] dX6_slope_64 rfl rfl rfl rfl rfl h (fun r S92 hq hI hr => ?_)
              obtain ⟨v93, rfl, h⟩ := Qi_ok hq
              replace h := h hI (mokI (hr _ rfl))
              clear hq hr
              refine y_istore_n 67 Y [some mt, some (mi a1), some (mi a2), some (mi v93)] dX6_slope_67 rfl rfl ?_
              refine y_iload_n 68 Y dX6_slope_68 rfl ?_
              refine y_if 69 82 Y dX6_slope_69 rfl rfl (fun c => ?_) (fun c => ?_)
              · replace h := h.1 c
                refine y_iload_n 82 Y dX6_slope_82 rfl ?_
                exact y_iret 83 Y dX6_slope_83 rfl h
              · replace h := h.2 c
                refine y_aload_n 72 Y dX6_slope_72 rfl ?_
                refine y_bipush 73 Y dX6_slope_73 rfl ?_
                refine y_iconst 75 Y dX6_slope_75 rfl ?_
                refine y_calls 76 Y (as := [mi 0]) [mi 26, mt] dX6_slope_76 rfl rfl rfl rfl rfl h (fun r S94 hq hI hr => ?_)
                obtain ⟨v95, rfl, h⟩ := Qi_ok hq
                replace h := h hI (mokI (hr _ rfl))
                clear hq hr
                refine y_call 79 Y (as := [mi 26, mi v95]) [] dX6_slope_79 rfl rfl rfl rfl rfl h (fun r S96 hq hI _ => ?_)
                obtain ⟨rfl, h⟩ := Qv_ok hq
                replace h := h hI
                clear hq
                refine y_iload_n 82 Y dX6_slope_82 rfl ?_
                exact y_iret 83 Y dX6_slope_83 rfl h
            · replace h := h.2 c
              refine y_iconst 56 Y dX6_slope_56 rfl ?_
              exact y_iret 57 Y dX6_slope_57 rfl h
          · replace h := h.2 c
            refine y_iconst 45 Y dX6_slope_45 rfl ?_
            refine y_goto 46 50 Y dX6_slope_46 rfl rfl ?_
            refine y_call 50 Y (as := [mi 1, mi 0, mi 1]) [] dX6_slope_50 rfl rfl rfl rfl rfl h (fun r S97 hq hI hr => ?_)
            obtain ⟨v98, rfl, h⟩ := Qi_ok hq
            replace h := h hI (mokI (hr _ rfl))
            clear hq hr
            refine y_if 53 58 Y dX6_slope_53 rfl rfl (fun c => ?_) (fun c => ?_)
            · replace h := h.1 c
              refine y_aload_n 58 Y dX6_slope_58 rfl ?_
              refine y_iload_n 59 Y dX6_slope_59 rfl ?_
              refine y_calls 60 Y (as := [mi a1]) [mt] dX6_slope_60 rfl rfl rfl rfl rfl h (fun r S99 hq hI hr => ?_)
              obtain ⟨v100, rfl, h⟩ := Qi_ok hq
              replace h := h hI (mokI (hr _ rfl))
              clear hq hr
              refine y_iload_n 63 Y dX6_slope_63 rfl ?_
              refine y_call 64 Y (as := [mi v100, mi a2]) [] dX6_slope_64 rfl rfl rfl rfl rfl h (fun r S101 hq hI hr => ?_)
              obtain ⟨v102, rfl, h⟩ := Qi_ok hq
              replace h := h hI (mokI (hr _ rfl))
              clear hq hr
              refine y_istore_n 67 Y [some mt, some (mi a1), some (mi a2), some (mi v102)] dX6_slope_67 rfl rfl ?_
              refine y_iload_n 68 Y dX6_slope_68 rfl ?_
              refine y_if 69 82 Y dX6_slope_69 rfl rfl (fun c => ?_) (fun c => ?_)
              · replace h := h.1 c
                refine y_iload_n 82 Y dX6_slope_82 rfl ?_
                exact y_iret 83 Y dX6_slope_83 rfl h
              · replace h := h.2 c
                refine y_aload_n 72 Y dX6_slope_72 rfl ?_
                refine y_bipush 73 Y dX6_slope_73 rfl ?_
                refine y_iconst 75 Y dX6_slope_75 rfl ?_
                refine y_calls 76 Y (as := [mi 0]) [mi 26, mt] dX6_slope_76 rfl rfl rfl rfl rfl h (fun r S103 hq hI hr => ?_)
                obtain ⟨v104, rfl, h⟩ := Qi_ok hq
                replace h := h hI (mokI (hr _ rfl))
                clear hq hr
                refine y_call 79 Y (as := [mi 26, mi v104]) [] dX6_slope_79 rfl rfl rfl rfl rfl h (fun r S105 hq hI _ => ?_)
                obtain ⟨rfl, h⟩ := Qv_ok hq
                replace h := h hI
                clear hq
                refine y_iload_n 82 Y dX6_slope_82 rfl ?_
                exact y_iret 83 Y dX6_slope_83 rfl h
            · replace h := h.2 c
              refine y_iconst 56 Y dX6_slope_56 rfl ?_
              exact y_iret 57 Y dX6_slope_57 rfl h
      · replace h := h.2 c
        refine y_iconst 21 Y dX6_slope_21 rfl ?_
        refine y_goto 22 26 Y dX6_slope_22 rfl rfl ?_
        refine y_aload_n 26 Y dX6_slope_26 rfl ?_
        refine y_iload_n 27 Y dX6_slope_27 rfl ?_
        refine y_call 28 Y (as := [mi a1]) [mi 1, mi 1, mt] dX6_slope_28 rfl rfl rfl rfl rfl h (fun r S106 hq hI hr => ?_)
        obtain ⟨v107, rfl, h⟩ := Qi_ok hq
        replace h := h hI (mokI (hr _ rfl))
        clear hq hr
        refine y_if 31 49 Y dX6_slope_31 rfl rfl (fun c => ?_) (fun c => ?_)
        · replace h := h.1 c
          refine y_iconst 49 Y dX6_slope_49 rfl ?_
          refine y_call 50 Y (as := [mi 1, mi 1, mi 0]) [] dX6_slope_50 rfl rfl rfl rfl rfl h (fun r S108 hq hI hr => ?_)
          obtain ⟨v109, rfl, h⟩ := Qi_ok hq
          replace h := h hI (mokI (hr _ rfl))
          clear hq hr
          refine y_if 53 58 Y dX6_slope_53 rfl rfl (fun c => ?_) (fun c => ?_)
          · replace h := h.1 c
            refine y_aload_n 58 Y dX6_slope_58 rfl ?_
            refine y_iload_n 59 Y dX6_slope_59 rfl ?_
            refine y_calls 60 Y (as := [mi a1]) [mt] dX6_slope_60 rfl rfl rfl rfl rfl h (fun r S110 hq hI hr => ?_)
            obtain ⟨v111, rfl, h⟩ := Qi_ok hq
            replace h := h hI (mokI (hr _ rfl))
            clear hq hr
            refine y_iload_n 63 Y dX6_slope_63 rfl ?_
            refine y_call 64 Y (as := [mi v111, mi a2]) [] dX6_slope_64 rfl rfl rfl rfl rfl h (fun r S112 hq hI hr => ?_)
            obtain ⟨v113, rfl, h⟩ := Qi_ok hq
            replace h := h hI (mokI (hr _ rfl))
            clear hq hr
            refine y_istore_n 67 Y [some mt, some (mi a1), some (mi a2), some (mi v113)] dX6_slope_67 rfl rfl ?_
            refine y_iload_n 68 Y dX6_slope_68 rfl ?_
            refine y_if 69 82 Y dX6_slope_69 rfl rfl (fun c => ?_) (fun c => ?_)
            · replace h := h.1 c
              refine y_iload_n 82 Y dX6_slope_82 rfl ?_
              exact y_iret 83 Y dX6_slope_83 rfl h
            · replace h := h.2 c
              refine y_aload_n 72 Y dX6_slope_72 rfl ?_
              refine y_bipush 73 Y dX6_slope_73 rfl ?_
              refine y_iconst 75 Y dX6_slope_75 rfl ?_
              refine y_calls 76 Y (as := [mi 0]) [mi 26, mt] dX6_slope_76 rfl rfl rfl rfl rfl h (fun r S114 hq hI hr => ?_)
              obtain ⟨v115, rfl, h⟩ := Qi_ok hq
              replace h := h hI (mokI (hr _ rfl))
              clear hq hr
              refine y_call 79 Y (as := [mi 26, mi v115]) [] dX6_slope_79 rfl rfl rfl rfl rfl h (fun r S116 hq hI _ => ?_)
              obtain ⟨rfl, h⟩ := Qv_ok hq
              replace h := h hI
              clear hq
              refine y_iload_n 82 Y dX6_slope_82 rfl ?_
              exact y_iret 83 Y dX6_slope_83 rfl h
          · replace h := h.2 c
            refine y_iconst 56 Y dX6_slope_56 rfl ?_
            exact y_iret 57 Y dX6_slope_57 rfl h
        · replace h := h.2 c
          refine y_aload_n 34 Y dX6_slope_34 rfl ?_
          refine y_iload_n 35 Y dX6_slope_35 rfl ?_
          refine y_calls 36 Y (as := [mi a1]) [mt, mi 1, mi 1, mt] dX6_slope_36 rfl rfl rfl rfl rfl h (fun r S117 hq hI hr => ?_)
          obtain ⟨v118, rfl, h⟩ := Qi_ok hq
          replace h := h hI (mokI (hr _ rfl))
          clear hq hr
          refine y_call 39 Y (as := [mi v118]) [mi 1, mi 1, mt] dX6_slope_39 rfl rfl rfl rfl rfl h (fun r S119 hq hI hr => ?_)
          obtain ⟨v120, rfl, h⟩ := Qi_ok hq
          replace h := h hI (mokI (hr _ rfl))
          clear hq hr
          refine y_if 42 49 Y dX6_slope_42 rfl rfl (fun c => ?_) (fun c => ?_)
          · replace h := h.1 c
            refine y_iconst 49 Y dX6_slope_49 rfl ?_
            refine y_call 50 Y (as := [mi 1, mi 1, mi 0]) [] dX6_slope_50 rfl rfl rfl rfl rfl h (fun r S121 hq hI hr => ?_)
            obtain ⟨v122, rfl, h⟩ := Qi_ok hq
            replace h := h hI (mokI (hr _ rfl))
            clear hq hr
            refine y_if 53 58 Y dX6_slope_53 rfl rfl (fun c => ?_) (fun c => ?_)
            · replace h := h.1 c
              refine y_aload_n 58 Y dX6_slope_58 rfl ?_
              refine y_iload_n 59 Y dX6_slope_59 rfl ?_
              refine y_calls 60 Y (as := [mi a1]) [mt] dX6_slope_60 rfl rfl rfl rfl rfl h (fun r S123 hq hI hr => ?_)
              obtain ⟨v124, rfl, h⟩ := Qi_ok hq
              replace h := h hI (mokI (hr _ rfl))
              clear hq hr
              refine y_iload_n 63 Y dX6_slope_63 rfl ?_
              refine y_call 64 Y (as := [mi v124, mi a2]) [] dX6_slope_64 rfl rfl rfl rfl rfl h (fun r S125 hq hI hr => ?_)
              obtain ⟨v126, rfl, h⟩ := Qi_ok hq
              replace h := h hI (mokI (hr _ rfl))
              clear hq hr
              refine y_istore_n 67 Y [some mt, some (mi a1), some (mi a2), some (mi v126)] dX6_slope_67 rfl rfl ?_
              refine y_iload_n 68 Y dX6_slope_68 rfl ?_
              refine y_if 69 82 Y dX6_slope_69 rfl rfl (fun c => ?_) (fun c => ?_)
              · replace h := h.1 c
                refine y_iload_n 82 Y dX6_slope_82 rfl ?_
                exact y_iret 83 Y dX6_slope_83 rfl h
              · replace h := h.2 c
                refine y_aload_n 72 Y dX6_slope_72 rfl ?_
                refine y_bipush 73 Y dX6_slope_73 rfl ?_
                refine y_iconst 75 Y dX6_slope_75 rfl ?_
                refine y_calls 76 Y (as := [mi 0]) [mi 26, mt] dX6_slope_76 rfl rfl rfl rfl rfl h (fun r S127 hq hI hr => ?_)
                obtain ⟨v128, rfl, h⟩ := Qi_ok hq
                replace h := h hI (mokI (hr _ rfl))
                clear hq hr
                refine y_call 79 Y (as := [mi 26, mi v128]) [] dX6_slope_79 rfl rfl rfl rfl rfl h (fun r S129 hq hI _ => ?_)
                obtain ⟨rfl, h⟩ := Qv_ok hq
                replace h := h hI
                clear hq
                refine y_iload_n 82 Y dX6_slope_82 rfl ?_
                exact y_iret 83 Y dX6_slope_83 rfl h
            · replace h := h.2 c
              refine y_iconst 56 Y dX6_slope_56 rfl ?_
              exact y_iret 57 Y dX6_slope_57 rfl h
          · replace h := h.2 c
            refine y_iconst 45 Y dX6_slope_45 rfl ?_
            refine y_goto 46 50 Y dX6_slope_46 rfl rfl ?_
            refine y_call 50 Y (as := [mi 1, mi 1, mi 1]) [] dX6_slope_50 rfl rfl rfl rfl rfl h (fun r S130 hq hI hr => ?_)
            obtain ⟨v131, rfl, h⟩ := Qi_ok hq
            replace h := h hI (mokI (hr _ rfl))
            clear hq hr
            refine y_if 53 58 Y dX6_slope_53 rfl rfl (fun c => ?_) (fun c => ?_)
            · replace h := h.1 c
              refine y_aload_n 58 Y dX6_slope_58 rfl ?_
              refine y_iload_n 59 Y dX6_slope_59 rfl ?_
              refine y_calls 60 Y (as := [mi a1]) [mt] dX6_slope_60 rfl rfl rfl rfl rfl h (fun r S132 hq hI hr => ?_)
              obtain ⟨v133, rfl, h⟩ := Qi_ok hq
              replace h := h hI (mokI (hr _ rfl))
              clear hq hr
              refine y_iload_n 63 Y dX6_slope_63 rfl ?_
              refine y_call 64 Y (as := [mi v133, mi a2]) [] dX6_slope_64 rfl rfl rfl rfl rfl h (fun r S134 hq hI hr => ?_)
              obtain ⟨v135, rfl, h⟩ := Qi_ok hq
              replace h := h hI (mokI (hr _ rfl))
              clear hq hr
              refine y_istore_n 67 Y [some mt, some (mi a1), some (mi a2), some (mi v135)] dX6_slope_67 rfl rfl ?_
              refine y_iload_n 68 Y dX6_slope_68 rfl ?_
              refine y_if 69 82 Y dX6_slope_69 rfl rfl (fun c => ?_) (fun c => ?_)
              · replace h := h.1 c
                refine y_iload_n 82 Y dX6_slope_82 rfl ?_
                exact y_iret 83 Y dX6_slope_83 rfl h
              · replace h := h.2 c
                refine y_aload_n 72 Y dX6_slope_72 rfl ?_
                refine y_bipush 73 Y dX6_slope_73 rfl ?_
                refine y_iconst 75 Y dX6_slope_75 rfl ?_
                refine y_calls 76 Y (as := [mi 0]) [mi 26, mt] dX6_slope_76 rfl rfl rfl rfl rfl h (fun r S136 hq hI hr => ?_)
                obtain ⟨v137, rfl, h⟩ := Qi_ok hq
                replace h := h hI (mokI (hr _ rfl))
                clear hq hr
                refine y_call 79 Y (as := [mi 26, mi v137]) [] dX6_slope_79 rfl rfl rfl rfl rfl h (fun r S138 hq hI _ => ?_)
                obtain ⟨rfl, h⟩ := Qv_ok hq
                replace h := h hI
                clear hq
                refine y_iload_n 82 Y dX6_slope_82 rfl ?_
                exact y_iret 83 Y dX6_slope_83 rfl h
            · replace h := h.2 c
              refine y_iconst 56 Y dX6_slope_56 rfl ?_
              exact y_iret 57 Y dX6_slope_57 rfl h
  · intro n pc L st T hi
    exact hi.elim
set_option maxHeartbeats 4000000 in
theorem of_audit {g : mG} {S : mS} {a1 a2 : Int} {Qp : Option mV → mS → Prop}
    (hE : mI S → (-2147483648 ≤ a1 ∧ a1 ≤ 2147483647) → (-2147483648 ≤ a2 ∧ a2 ≤ 2147483647) → CX_in g [mi a1, mi 0, mi 3] S (Qi fun v2 S1 => mI S1 → (-2147483648 ≤ v2 ∧ v2 ≤ 2147483647) → ((v2 ≠ 0) → CX_isTree g [mt, mi a2] S1 (Qi fun v4 S3 => mI S3 → (-2147483648 ≤ v4 ∧ v4 ≤ 2147483647) → ((v4 ≠ 0) → CX_refused g [mt, mi 0, mi 0, mi 0] S3 (Qi fun v6 S5 => mI S5 → (-2147483648 ≤ v6 ∧ v6 ≤ 2147483647) → ((v6 = 0) → CX_shelf g [mi a2] S5 (Qi fun v8 S7 => mI S7 → (-2147483648 ≤ v8 ∧ v8 ≤ 2147483647) → (a1 = 0 → CX_isPrinted g [mt, mi v8] S7 (Qi fun v10 S9 => mI S9 → (-2147483648 ≤ v10 ∧ v10 ≤ 2147483647) → (v10 = 0 ∨ v10 = 1) ∧ Qp (some (mi v10)) S9)) ∧ (a1 = 1 → Qp (some (mi 1)) S7) ∧ (a1 = 2 → CX_isSimpler g [mt, mi v8] S7 (Qi fun v12 S11 => mI S11 → (-2147483648 ≤ v12 ∧ v12 ≤ 2147483647) → (v12 = 0 ∨ v12 = 1) ∧ Qp (some (mi v12)) S11)) ∧ (a1 < 0 ∨ 2 < a1 → CX_isSlope g [mt, mi v8, mi 120] S7 (Qi fun v14 S13 => mI S13 → (-2147483648 ≤ v14 ∧ v14 ≤ 2147483647) → ((v14 = 0) → Qp (some (mi 0)) S13) ∧ (¬ (v14 = 0) → CX_isSlope g [mt, mi v8, mi 121] S13 (Qi fun v16 S15 => mI S15 → (-2147483648 ≤ v16 ∧ v16 ≤ 2147483647) → ((v16 = 0) → Qp (some (mi 0)) S15) ∧ (¬ (v16 = 0) → CX_isSlope g [mt, mi v8, mi 122] S15 (Qi fun v18 S17 => mI S17 → (-2147483648 ≤ v18 ∧ v18 ≤ 2147483647) → ((v18 = 0) → Qp (some (mi 0)) S17) ∧ (¬ (v18 = 0) → Qp (some (mi 1)) S17))))))))) ∧ (¬ (v6 = 0) → Qp (some (mi 0)) S5))) ∧ (¬ (v4 ≠ 0) → CX_refused g [mt, mi 0, mi 1, mi 0] S3 (Qi fun v20 S19 => mI S19 → (-2147483648 ≤ v20 ∧ v20 ≤ 2147483647) → ((v20 = 0) → CX_shelf g [mi a2] S19 (Qi fun v22 S21 => mI S21 → (-2147483648 ≤ v22 ∧ v22 ≤ 2147483647) → (a1 = 0 → CX_isPrinted g [mt, mi v22] S21 (Qi fun v24 S23 => mI S23 → (-2147483648 ≤ v24 ∧ v24 ≤ 2147483647) → (v24 = 0 ∨ v24 = 1) ∧ Qp (some (mi v24)) S23)) ∧ (a1 = 1 → Qp (some (mi 1)) S21) ∧ (a1 = 2 → CX_isSimpler g [mt, mi v22] S21 (Qi fun v26 S25 => mI S25 → (-2147483648 ≤ v26 ∧ v26 ≤ 2147483647) → (v26 = 0 ∨ v26 = 1) ∧ Qp (some (mi v26)) S25)) ∧ (a1 < 0 ∨ 2 < a1 → CX_isSlope g [mt, mi v22, mi 120] S21 (Qi fun v28 S27 => mI S27 → (-2147483648 ≤ v28 ∧ v28 ≤ 2147483647) → ((v28 = 0) → Qp (some (mi 0)) S27) ∧ (¬ (v28 = 0) → CX_isSlope g [mt, mi v22, mi 121] S27 (Qi fun v30 S29 => mI S29 → (-2147483648 ≤ v30 ∧ v30 ≤ 2147483647) → ((v30 = 0) → Qp (some (mi 0)) S29) ∧ (¬ (v30 = 0) → CX_isSlope g [mt, mi v22, mi 122] S29 (Qi fun v32 S31 => mI S31 → (-2147483648 ≤ v32 ∧ v32 ≤ 2147483647) → ((v32 = 0) → Qp (some (mi 0)) S31) ∧ (¬ (v32 = 0) → Qp (some (mi 1)) S31))))))))) ∧ (¬ (v20 = 0) → Qp (some (mi 0)) S19))))) ∧ (¬ (v2 ≠ 0) → CX_isTree g [mt, mi a2] S1 (Qi fun v34 S33 => mI S33 → (-2147483648 ≤ v34 ∧ v34 ≤ 2147483647) → ((v34 ≠ 0) → CX_refused g [mt, mi 1, mi 0, mi 0] S33 (Qi fun v36 S35 => mI S35 → (-2147483648 ≤ v36 ∧ v36 ≤ 2147483647) → ((v36 = 0) → CX_shelf g [mi a2] S35 (Qi fun v38 S37 => mI S37 → (-2147483648 ≤ v38 ∧ v38 ≤ 2147483647) → (a1 = 0 → CX_isPrinted g [mt, mi v38] S37 (Qi fun v40 S39 => mI S39 → (-2147483648 ≤ v40 ∧ v40 ≤ 2147483647) → (v40 = 0 ∨ v40 = 1) ∧ Qp (some (mi v40)) S39)) ∧ (a1 = 1 → Qp (some (mi 1)) S37) ∧ (a1 = 2 → CX_isSimpler g [mt, mi v38] S37 (Qi fun v42 S41 => mI S41 → (-2147483648 ≤ v42 ∧ v42 ≤ 2147483647) → (v42 = 0 ∨ v42 = 1) ∧ Qp (some (mi v42)) S41)) ∧ (a1 < 0 ∨ 2 < a1 → CX_isSlope g [mt, mi v38, mi 120] S37 (Qi fun v44 S43 => mI S43 → (-2147483648 ≤ v44 ∧ v44 ≤ 2147483647) → ((v44 = 0) → Qp (some (mi 0)) S43) ∧ (¬ (v44 = 0) → CX_isSlope g [mt, mi v38, mi 121] S43 (Qi fun v46 S45 => mI S45 → (-2147483648 ≤ v46 ∧ v46 ≤ 2147483647) → ((v46 = 0) → Qp (some (mi 0)) S45) ∧ (¬ (v46 = 0) → CX_isSlope g [mt, mi v38, mi 122] S45 (Qi fun v48 S47 => mI S47 → (-2147483648 ≤ v48 ∧ v48 ≤ 2147483647) → ((v48 = 0) → Qp (some (mi 0)) S47) ∧ (¬ (v48 = 0) → Qp (some (mi 1)) S47))))))))) ∧ (¬ (v36 = 0) → Qp (some (mi 0)) S35))) ∧ (¬ (v34 ≠ 0) → CX_refused g [mt, mi 1, mi 1, mi 0] S33 (Qi fun v50 S49 => mI S49 → (-2147483648 ≤ v50 ∧ v50 ≤ 2147483647) → ((v50 = 0) → CX_shelf g [mi a2] S49 (Qi fun v52 S51 => mI S51 → (-2147483648 ≤ v52 ∧ v52 ≤ 2147483647) → (a1 = 0 → CX_isPrinted g [mt, mi v52] S51 (Qi fun v54 S53 => mI S53 → (-2147483648 ≤ v54 ∧ v54 ≤ 2147483647) → (v54 = 0 ∨ v54 = 1) ∧ Qp (some (mi v54)) S53)) ∧ (a1 = 1 → Qp (some (mi 1)) S51) ∧ (a1 = 2 → CX_isSimpler g [mt, mi v52] S51 (Qi fun v56 S55 => mI S55 → (-2147483648 ≤ v56 ∧ v56 ≤ 2147483647) → (v56 = 0 ∨ v56 = 1) ∧ Qp (some (mi v56)) S55)) ∧ (a1 < 0 ∨ 2 < a1 → CX_isSlope g [mt, mi v52, mi 120] S51 (Qi fun v58 S57 => mI S57 → (-2147483648 ≤ v58 ∧ v58 ≤ 2147483647) → ((v58 = 0) → Qp (some (mi 0)) S57) ∧ (¬ (v58 = 0) → CX_isSlope g [mt, mi v52, mi 121] S57 (Qi fun v60 S59 => mI S59 → (-2147483648 ≤ v60 ∧ v60 ≤ 2147483647) → ((v60 = 0) → Qp (some (mi 0)) S59) ∧ (¬ (v60 = 0) → CX_isSlope g [mt, mi v52, mi 122] S59 (Qi fun v62 S61 => mI S61 → (-2147483648 ≤ v62 ∧ v62 ≤ 2147483647) → ((v62 = 0) → Qp (some (mi 0)) S61) ∧ (¬ (v62 = 0) → Qp (some (mi 1)) S61))))))))) ∧ (¬ (v50 = 0) → Qp (some (mi 0)) S49)))))))
    : CX_audit g [mt, mi a1, mi a2] S Qp := by
  refine cm_y ⟨by decide, rfl⟩ (by simp [mcat]) (by simp) (fun _ _ _ _ _ => False) ?_ ?_
  · intro ha hS P Y Wk hIc
    have h := hE hS (mokI (ha (mi a1) (by simp))) (mokI (ha (mi a2) (by simp)))
    clear hE ha
    refine y_aload_n 0 Y dX6_audit_0 rfl ?_
    refine y_iload_n 1 Y dX6_audit_1 rfl ?_
    refine y_iconst 2 Y dX6_audit_2 rfl ?_
    refine y_iconst 3 Y dX6_audit_3 rfl ?_
    refine y_calls 4 Y (as := [mi a1, mi 0, mi 3]) [mt] dX6_audit_4 rfl rfl rfl rfl rfl h (fun r S1 hq hI hr => ?_)
    obtain ⟨v2, rfl, h⟩ := Qi_ok hq
    replace h := h hI (mokI (hr _ rfl))
    clear hq hr
    refine y_if 7 14 Y dX6_audit_7 rfl rfl (fun c => ?_) (fun c => ?_)
    · replace h := h.1 c
      refine y_iconst 14 Y dX6_audit_14 rfl ?_
      refine y_aload_n 15 Y dX6_audit_15 rfl ?_
      refine y_iload_n 16 Y dX6_audit_16 rfl ?_
      refine y_call 17 Y (as := [mi a2]) [mi 0, mt] dX6_audit_17 rfl rfl rfl rfl rfl h (fun r S3 hq hI hr => ?_)
      obtain ⟨v4, rfl, h⟩ := Qi_ok hq
      replace h := h hI (mokI (hr _ rfl))
      clear hq hr
      refine y_if 20 27 Y dX6_audit_20 rfl rfl (fun c => ?_) (fun c => ?_)
      · replace h := h.1 c
        refine y_iconst 27 Y dX6_audit_27 rfl ?_
        refine y_iconst 28 Y dX6_audit_28 rfl ?_
        refine y_call 29 Y (as := [mi 0, mi 0, mi 0]) [] dX6_audit_29 rfl rfl rfl rfl rfl h (fun r S5 hq hI hr => ?_)
        obtain ⟨v6, rfl, h⟩ := Qi_ok hq
        replace h := h hI (mokI (hr _ rfl))
        clear hq hr
        refine y_if 32 37 Y dX6_audit_32 rfl rfl (fun c => ?_) (fun c => ?_)
        · replace h := h.1 c
          refine y_iload_n 37 Y dX6_audit_37 rfl ?_
          refine y_calls 38 Y (as := [mi a2]) [] dX6_audit_38 rfl rfl rfl rfl rfl h (fun r S7 hq hI hr => ?_)
          obtain ⟨v8, rfl, h⟩ := Qi_ok hq
          replace h := h hI (mokI (hr _ rfl))
          clear hq hr
          refine y_istore_n 41 Y [some mt, some (mi a1), some (mi a2), some (mi v8)] dX6_audit_41 rfl rfl ?_
          refine y_iload_n 42 Y dX6_audit_42 rfl ?_
          refine y_table 43 Y dX6_audit_43 rfl (And.intro (fun c => ?_) (And.intro (fun c => ?_) (And.intro (fun c => ?_) trivial))) (fun c => ?_)
          · replace h := h.1 c
            refine y_aload_n 68 Y dX6_audit_68 rfl ?_
            refine y_iload_n 69 Y dX6_audit_69 rfl ?_
            refine y_call 70 Y (as := [mi v8]) [] dX6_audit_70 rfl rfl rfl rfl rfl h (fun r S9 hq hI hr => ?_)
            obtain ⟨v10, rfl, h⟩ := Qi_ok hq
            replace h := h hI (mokI (hr _ rfl))
            clear hq hr
            exact y_zret 73 Y dX6_audit_73 rfl h.1 h.2
          · replace h := h.2.1 c
            refine y_iconst 74 Y dX6_audit_74 rfl ?_
            exact y_zret 75 Y dX6_audit_75 rfl (by decide) h
          · replace h := h.2.2.1 c
            refine y_aload_n 76 Y dX6_audit_76 rfl ?_
            refine y_iload_n 77 Y dX6_audit_77 rfl ?_
            refine y_call 78 Y (as := [mi v8]) [] dX6_audit_78 rfl rfl rfl rfl rfl h (fun r S11 hq hI hr => ?_)
            obtain ⟨v12, rfl, h⟩ := Qi_ok hq
            replace h := h hI (mokI (hr _ rfl))
            clear hq hr
            exact y_zret 81 Y dX6_audit_81 rfl h.1 h.2
          · replace h := h.2.2.2 c
            refine y_aload_n 82 Y dX6_audit_82 rfl ?_
            refine y_iload_n 83 Y dX6_audit_83 rfl ?_
            refine y_bipush 84 Y dX6_audit_84 rfl ?_
            refine y_call 86 Y (as := [mi v8, mi 120]) [] dX6_audit_86 rfl rfl rfl rfl rfl h (fun r S13 hq hI hr => ?_)
            obtain ⟨v14, rfl, h⟩ := Qi_ok hq
            replace h := h hI (mokI (hr _ rfl))
            clear hq hr
            refine y_if 89 116 Y dX6_audit_89 rfl rfl (fun c => ?_) (fun c => ?_)
            · replace h := h.1 c
              refine y_iconst 116 Y dX6_audit_116 rfl ?_
              exact y_zret 117 Y dX6_audit_117 rfl (by decide) h
            · replace h := h.2 c
              refine y_aload_n 92 Y dX6_audit_92 rfl ?_
              refine y_iload_n 93 Y dX6_audit_93 rfl ?_
              refine y_bipush 94 Y dX6_audit_94 rfl ?_
              refine y_call 96 Y (as := [mi v8, mi 121]) [] dX6_audit_96 rfl rfl rfl rfl rfl h (fun r S15 hq hI hr => ?_)
              obtain ⟨v16, rfl, h⟩ := Qi_ok hq
              replace h := h hI (mokI (hr _ rfl))
              clear hq hr
              refine y_if 99 116 Y dX6_audit_99 rfl rfl (fun c => ?_) (fun c => ?_)
              · replace h := h.1 c
                refine y_iconst 116 Y dX6_audit_116 rfl ?_
                exact y_zret 117 Y dX6_audit_117 rfl (by decide) h
              · replace h := h.2 c
                refine y_aload_n 102 Y dX6_audit_102 rfl ?_
                refine y_iload_n 103 Y dX6_audit_103 rfl ?_
                refine y_bipush 104 Y dX6_audit_104 rfl ?_
                refine y_call 106 Y (as := [mi v8, mi 122]) [] dX6_audit_106 rfl rfl rfl rfl rfl h (fun r S17 hq hI hr => ?_)
                obtain ⟨v18, rfl, h⟩ := Qi_ok hq
                replace h := h hI (mokI (hr _ rfl))
                clear hq hr
                refine y_if 109 116 Y dX6_audit_109 rfl rfl (fun c => ?_) (fun c => ?_)
                · replace h := h.1 c
                  refine y_iconst 116 Y dX6_audit_116 rfl ?_
                  exact y_zret 117 Y dX6_audit_117 rfl (by decide) h
                · replace h := h.2 c
                  refine y_iconst 112 Y dX6_audit_112 rfl ?_
                  refine y_goto 113 117 Y dX6_audit_113 rfl rfl ?_
                  exact y_zret 117 Y dX6_audit_117 rfl (by decide) h
        · replace h := h.2 c
          refine y_iconst 35 Y dX6_audit_35 rfl ?_
          exact y_zret 36 Y dX6_audit_36 rfl (by decide) h
      · replace h := h.2 c
        refine y_iconst 23 Y dX6_audit_23 rfl ?_
        refine y_goto 24 28 Y dX6_audit_24 rfl rfl ?_
        refine y_iconst 28 Y dX6_audit_28 rfl ?_
        refine y_call 29 Y (as := [mi 0, mi 1, mi 0]) [] dX6_audit_29 rfl rfl rfl rfl rfl h (fun r S19 hq hI hr => ?_)
        obtain ⟨v20, rfl, h⟩ := Qi_ok hq
        replace h := h hI (mokI (hr _ rfl))
        clear hq hr
        refine y_if 32 37 Y dX6_audit_32 rfl rfl (fun c => ?_) (fun c => ?_)
        · replace h := h.1 c
          refine y_iload_n 37 Y dX6_audit_37 rfl ?_
          refine y_calls 38 Y (as := [mi a2]) [] dX6_audit_38 rfl rfl rfl rfl rfl h (fun r S21 hq hI hr => ?_)
          obtain ⟨v22, rfl, h⟩ := Qi_ok hq
          replace h := h hI (mokI (hr _ rfl))
          clear hq hr
          refine y_istore_n 41 Y [some mt, some (mi a1), some (mi a2), some (mi v22)] dX6_audit_41 rfl rfl ?_
          refine y_iload_n 42 Y dX6_audit_42 rfl ?_
          refine y_table 43 Y dX6_audit_43 rfl (And.intro (fun c => ?_) (And.intro (fun c => ?_) (And.intro (fun c => ?_) trivial))) (fun c => ?_)
          · replace h := h.1 c
            refine y_aload_n 68 Y dX6_audit_68 rfl ?_
            refine y_iload_n 69 Y dX6_audit_69 rfl ?_
            refine y_call 70 Y (as := [mi v22]) [] dX6_audit_70 rfl rfl rfl rfl rfl h (fun r S23 hq hI hr => ?_)
            obtain ⟨v24, rfl, h⟩ := Qi_ok hq
            replace h := h hI (mokI (hr _ rfl))
            clear hq hr
            exact y_zret 73 Y dX6_audit_73 rfl h.1 h.2
          · replace h := h.2.1 c
            refine y_iconst 74 Y dX6_audit_74 rfl ?_
            exact y_zret 75 Y dX6_audit_75 rfl (by decide) h
          · replace h := h.2.2.1 c
            refine y_aload_n 76 Y dX6_audit_76 rfl ?_
            refine y_iload_n 77 Y dX6_audit_77 rfl ?_
            refine y_call 78 Y (as := [mi v22]) [] dX6_audit_78 rfl rfl rfl rfl rfl h (fun r S25 hq hI hr => ?_)
            obtain ⟨v26, rfl, h⟩ := Qi_ok hq
            replace h := h hI (mokI (hr _ rfl))
            clear hq hr
            exact y_zret 81 Y dX6_audit_81 rfl h.1 h.2
          · replace h := h.2.2.2 c
            refine y_aload_n 82 Y dX6_audit_82 rfl ?_
            refine y_iload_n 83 Y dX6_audit_83 rfl ?_
            refine y_bipush 84 Y dX6_audit_84 rfl ?_
            refine y_call 86 Y (as := [mi v22, mi 120]) [] dX6_audit_86 rfl rfl rfl rfl rfl h (fun r S27 hq hI hr => ?_)
            obtain ⟨v28, rfl, h⟩ := Qi_ok hq
            replace h := h hI (mokI (hr _ rfl))
            clear hq hr
            refine y_if 89 116 Y dX6_audit_89 rfl rfl (fun c => ?_) (fun c => ?_)
            · replace h := h.1 c
              refine y_iconst 116 Y dX6_audit_116 rfl ?_
              exact y_zret 117 Y dX6_audit_117 rfl (by decide) h
            · replace h := h.2 c
              refine y_aload_n 92 Y dX6_audit_92 rfl ?_
              refine y_iload_n 93 Y dX6_audit_93 rfl ?_
              refine y_bipush 94 Y dX6_audit_94 rfl ?_
              refine y_call 96 Y (as := [mi v22, mi 121]) [] dX6_audit_96 rfl rfl rfl rfl rfl h (fun r S29 hq hI hr => ?_)
              obtain ⟨v30, rfl, h⟩ := Qi_ok hq
              replace h := h hI (mokI (hr _ rfl))
              clear hq hr
              refine y_if 99 116 Y dX6_audit_99 rfl rfl (fun c => ?_) (fun c => ?_)
              · replace h := h.1 c
                refine y_iconst 116 Y dX6_audit_116 rfl ?_
                exact y_zret 117 Y dX6_audit_117 rfl (by decide) h
              · replace h := h.2 c
                refine y_aload_n 102 Y dX6_audit_102 rfl ?_
                refine y_iload_n 103 Y dX6_audit_103 rfl ?_
                refine y_bipush 104 Y dX6_audit_104 rfl ?_
                refine y_call 106 Y (as := [mi v22, mi 122]) [] dX6_audit_106 rfl rfl rfl rfl rfl h (fun r S31 hq hI hr => ?_)
                obtain ⟨v32, rfl, h⟩ := Qi_ok hq
                replace h := h hI (mokI (hr _ rfl))
                clear hq hr
                refine y_if 109 116 Y dX6_audit_109 rfl rfl (fun c => ?_) (fun c => ?_)
                · replace h := h.1 c
                  refine y_iconst 116 Y dX6_audit_116 rfl ?_
                  exact y_zret 117 Y dX6_audit_117 rfl (by decide) h
                · replace h := h.2 c
                  refine y_iconst 112 Y dX6_audit_112 rfl ?_
                  refine y_goto 113 117 Y dX6_audit_113 rfl rfl ?_
                  exact y_zret 117 Y dX6_audit_117 rfl (by decide) h
        · replace h := h.2 c
          refine y_iconst 35 Y dX6_audit_35 rfl ?_
          exact y_zret 36 Y dX6_audit_36 rfl (by decide) h
    · replace h := h.2 c
      refine y_iconst 10 Y dX6_audit_10 rfl ?_
      refine y_goto 11 15 Y dX6_audit_11 rfl rfl ?_
      refine y_aload_n 15 Y dX6_audit_15 rfl ?_
      refine y_iload_n 16 Y dX6_audit_16 rfl ?_
      refine y_call 17 Y (as := [mi a2]) [mi 1, mt] dX6_audit_17 rfl rfl rfl rfl rfl h (fun r S33 hq hI hr => ?_)
      obtain ⟨v34, rfl, h⟩ := Qi_ok hq
      replace h := h hI (mokI (hr _ rfl))
      clear hq hr
      refine y_if 20 27 Y dX6_audit_20 rfl rfl (fun c => ?_) (fun c => ?_)
      · replace h := h.1 c
        refine y_iconst 27 Y dX6_audit_27 rfl ?_
        refine y_iconst 28 Y dX6_audit_28 rfl ?_
        refine y_call 29 Y (as := [mi 1, mi 0, mi 0]) [] dX6_audit_29 rfl rfl rfl rfl rfl h (fun r S35 hq hI hr => ?_)
        obtain ⟨v36, rfl, h⟩ := Qi_ok hq
        replace h := h hI (mokI (hr _ rfl))
        clear hq hr
        refine y_if 32 37 Y dX6_audit_32 rfl rfl (fun c => ?_) (fun c => ?_)
        · replace h := h.1 c
          refine y_iload_n 37 Y dX6_audit_37 rfl ?_
          refine y_calls 38 Y (as := [mi a2]) [] dX6_audit_38 rfl rfl rfl rfl rfl h (fun r S37 hq hI hr => ?_)
          obtain ⟨v38, rfl, h⟩ := Qi_ok hq
          replace h := h hI (mokI (hr _ rfl))
          clear hq hr
          refine y_istore_n 41 Y [some mt, some (mi a1), some (mi a2), some (mi v38)] dX6_audit_41 rfl rfl ?_
          refine y_iload_n 42 Y dX6_audit_42 rfl ?_
          refine y_table 43 Y dX6_audit_43 rfl (And.intro (fun c => ?_) (And.intro (fun c => ?_) (And.intro (fun c => ?_) trivial))) (fun c => ?_)
          · replace h := h.1 c
            refine y_aload_n 68 Y dX6_audit_68 rfl ?_
            refine y_iload_n 69 Y dX6_audit_69 rfl ?_
            refine y_call 70 Y (as := [mi v38]) [] dX6_audit_70 rfl rfl rfl rfl rfl h (fun r S39 hq hI hr => ?_)
            obtain ⟨v40, rfl, h⟩ := Qi_ok hq
            replace h := h hI (mokI (hr _ rfl))
            clear hq hr
            exact y_zret 73 Y dX6_audit_73 rfl h.1 h.2
          · replace h := h.2.1 c
            refine y_iconst 74 Y dX6_audit_74 rfl ?_
            exact y_zret 75 Y dX6_audit_75 rfl (by decide) h
          · replace h := h.2.2.1 c
            refine y_aload_n 76 Y dX6_audit_76 rfl ?_
            refine y_iload_n 77 Y dX6_audit_77 rfl ?_
            refine y_call 78 Y (as := [mi v38]) [] dX6_audit_78 rfl rfl rfl rfl rfl h (fun r S41 hq hI hr => ?_)
            obtain ⟨v42, rfl, h⟩ := Qi_ok hq
            replace h := h hI (mokI (hr _ rfl))
            clear hq hr
            exact y_zret 81 Y dX6_audit_81 rfl h.1 h.2
          · replace h := h.2.2.2 c
            refine y_aload_n 82 Y dX6_audit_82 rfl ?_
            refine y_iload_n 83 Y dX6_audit_83 rfl ?_
            refine y_bipush 84 Y dX6_audit_84 rfl ?_
            refine y_call 86 Y (as := [mi v38, mi 120]) [] dX6_audit_86 rfl rfl rfl rfl rfl h (fun r S43 hq hI hr => ?_)
            obtain ⟨v44, rfl, h⟩ := Qi_ok hq
            replace h := h hI (mokI (hr _ rfl))
            clear hq hr
            refine y_if 89 116 Y dX6_audit_89 rfl rfl (fun c => ?_) (fun c => ?_)
            · replace h := h.1 c
              refine y_iconst 116 Y dX6_audit_116 rfl ?_
              exact y_zret 117 Y dX6_audit_117 rfl (by decide) h
            · replace h := h.2 c
              refine y_aload_n 92 Y dX6_audit_92 rfl ?_
              refine y_iload_n 93 Y dX6_audit_93 rfl ?_
              refine y_bipush 94 Y dX6_audit_94 rfl ?_
              refine y_call 96 Y (as := [mi v38, mi 121]) [] dX6_audit_96 rfl rfl rfl rfl rfl h (fun r S45 hq hI hr => ?_)
              obtain ⟨v46, rfl, h⟩ := Qi_ok hq
              replace h := h hI (mokI (hr _ rfl))
              clear hq hr
              refine y_if 99 116 Y dX6_audit_99 rfl rfl (fun c => ?_) (fun c => ?_)
              · replace h := h.1 c
                refine y_iconst 116 Y dX6_audit_116 rfl ?_
                exact y_zret 117 Y dX6_audit_117 rfl (by decide) h
              · replace h := h.2 c
                refine y_aload_n 102 Y dX6_audit_102 rfl ?_
                refine y_iload_n 103 Y dX6_audit_103 rfl ?_
                refine y_bipush 104 Y dX6_audit_104 rfl ?_
                refine y_call 106 Y (as := [mi v38, mi 122]) [] dX6_audit_106 rfl rfl rfl rfl rfl h (fun r S47 hq hI hr => ?_)
                obtain ⟨v48, rfl, h⟩ := Qi_ok hq
                replace h := h hI (mokI (hr _ rfl))
                clear hq hr
                refine y_if 109 116 Y dX6_audit_109 rfl rfl (fun c => ?_) (fun c => ?_)
                · replace h := h.1 c
                  refine y_iconst 116 Y dX6_audit_116 rfl ?_
                  exact y_zret 117 Y dX6_audit_117 rfl (by decide) h
                · replace h := h.2 c
                  refine y_iconst 112 Y dX6_audit_112 rfl ?_
                  refine y_goto 113 117 Y dX6_audit_113 rfl rfl ?_
                  exact y_zret 117 Y dX6_audit_117 rfl (by decide) h
        · replace h := h.2 c
          refine y_iconst 35 Y dX6_audit_35 rfl ?_
          exact y_zret 36 Y dX6_audit_36 rfl (by decide) h
      · replace h := h.2 c
        refine y_iconst 23 Y dX6_audit_23 rfl ?_
        refine y_goto 24 28 Y dX6_audit_24 rfl rfl ?_
        refine y_iconst 28 Y dX6_audit_28 rfl ?_
        refine y_call 29 Y (as := [mi 1, mi 1, mi 0]) [] dX6_audit_29 rfl rfl rfl rfl rfl h (fun r S49 hq hI hr => ?_)
        obtain ⟨v50, rfl, h⟩ := Qi_ok hq
        replace h := h hI (mokI (hr _ rfl))
        clear hq hr
        refine y_if 32 37 Y dX6_audit_32 rfl rfl (fun c => ?_) (fun c => ?_)
        · replace h := h.1 c
          refine y_iload_n 37 Y dX6_audit_37 rfl ?_
          refine y_calls 38 Y (as := [mi a2]) [] dX6_audit_38 rfl rfl rfl rfl rfl h (fun r S51 hq hI hr => ?_)
          obtain ⟨v52, rfl, h⟩ := Qi_ok hq
          replace h := h hI (mokI (hr _ rfl))
          clear hq hr
          refine y_istore_n 41 Y [some mt, some (mi a1), some (mi a2), some (mi v52)] dX6_audit_41 rfl rfl ?_
          refine y_iload_n 42 Y dX6_audit_42 rfl ?_
          refine y_table 43 Y dX6_audit_43 rfl (And.intro (fun c => ?_) (And.intro (fun c => ?_) (And.intro (fun c => ?_) trivial))) (fun c => ?_)
          · replace h := h.1 c
            refine y_aload_n 68 Y dX6_audit_68 rfl ?_
            refine y_iload_n 69 Y dX6_audit_69 rfl ?_
            refine y_call 70 Y (as := [mi v52]) [] dX6_audit_70 rfl rfl rfl rfl rfl h (fun r S53 hq hI hr => ?_)
            obtain ⟨v54, rfl, h⟩ := Qi_ok hq
            replace h := h hI (mokI (hr _ rfl))
            clear hq hr
            exact y_zret 73 Y dX6_audit_73 rfl h.1 h.2
          · replace h := h.2.1 c
            refine y_iconst 74 Y dX6_audit_74 rfl ?_
            exact y_zret 75 Y dX6_audit_75 rfl (by decide) h
          · replace h := h.2.2.1 c
            refine y_aload_n 76 Y dX6_audit_76 rfl ?_
            refine y_iload_n 77 Y dX6_audit_77 rfl ?_
            refine y_call 78 Y (as := [mi v52]) [] dX6_audit_78 rfl rfl rfl rfl rfl h (fun r S55 hq hI hr => ?_)
            obtain ⟨v56, rfl, h⟩ := Qi_ok hq
            replace h := h hI (mokI (hr _ rfl))
            clear hq hr
            exact y_zret 81 Y dX6_audit_81 rfl h.1 h.2
          · replace h := h.2.2.2 c
            refine y_aload_n 82 Y dX6_audit_82 rfl ?_
            refine y_iload_n 83 Y dX6_audit_83 rfl ?_
            refine y_bipush 84 Y dX6_audit_84 rfl ?_
            refine y_call 86 Y (as := [mi v52, mi 120]) [] dX6_audit_86 rfl rfl rfl rfl rfl h (fun r S57 hq hI hr => ?_)
            obtain ⟨v58, rfl, h⟩ := Qi_ok hq
            replace h := h hI (mokI (hr _ rfl))
            clear hq hr
            refine y_if 89 116 Y dX6_audit_89 rfl rfl (fun c => ?_) (fun c => ?_)
            · replace h := h.1 c
              refine y_iconst 116 Y dX6_audit_116 rfl ?_
              exact y_zret 117 Y dX6_audit_117 rfl (by decide) h
            · replace h := h.2 c
              refine y_aload_n 92 Y dX6_audit_92 rfl ?_
              refine y_iload_n 93 Y dX6_audit_93 rfl ?_
              refine y_bipush 94 Y dX6_audit_94 rfl ?_
              refine y_call 96 Y (as := [mi v52, mi 121]) [] dX6_audit_96 rfl rfl rfl rfl rfl h (fun r S59 hq hI hr => ?_)
              obtain ⟨v60, rfl, h⟩ := Qi_ok hq
              replace h := h hI (mokI (hr _ rfl))
              clear hq hr
              refine y_if 99 116 Y dX6_audit_99 rfl rfl (fun c => ?_) (fun c => ?_)
              · replace h := h.1 c
                refine y_iconst 116 Y dX6_audit_116 rfl ?_
                exact y_zret 117 Y dX6_audit_117 rfl (by decide) h
              · replace h := h.2 c
                refine y_aload_n 102 Y dX6_audit_102 rfl ?_
                refine y_iload_n 103 Y dX6_audit_103 rfl ?_
                refine y_bipush 104 Y dX6_audit_104 rfl ?_
                refine y_call 106 Y (as := [mi v52, mi 122]) [] dX6_audit_106 rfl rfl rfl rfl rfl h (fun r S61 hq hI hr => ?_)
                obtain ⟨v62, rfl, h⟩ := Qi_ok hq
                replace h := h hI (mokI (hr _ rfl))
                clear hq hr
                refine y_if 109 116 Y dX6_audit_109 rfl rfl (fun c => ?_) (fun c => ?_)
                · replace h := h.1 c
                  refine y_iconst 116 Y dX6_audit_116 rfl ?_
                  exact y_zret 117 Y dX6_audit_117 rfl (by decide) h
                · replace h := h.2 c
                  refine y_iconst 112 Y dX6_audit_112 rfl ?_
                  refine y_goto 113 117 Y dX6_audit_113 rfl rfl ?_
                  exact y_zret 117 Y dX6_audit_117 rfl (by decide) h
        · replace h := h.2 c
          refine y_iconst 35 Y dX6_audit_35 rfl ?_
          exact y_zret 36 Y dX6_audit_36 rfl (by decide) h
  · intro n pc L st T hi
    exact hi.elim

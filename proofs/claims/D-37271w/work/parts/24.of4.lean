/-! Contracts out of conditions; printed by gen_vc.py. -/
set_option maxRecDepth 100000
set_option maxHeartbeats 4000000 in
theorem of_noteFunction {g : mG} {S : mS} {a1 : Int} {Qp : Option mV → mS → Prop} (I22 : Nat → Int → Int → Int → mS → Prop)
    (hE : mI S → (-2147483648 ≤ a1 ∧ a1 ≤ 2147483647) → (0 ≤ a1) ∧ (a1 < 26) ∧ CX_note g [mt, mi 3, mi a1, mi (S 11 a1), mi (S 12 a1), mi 0] S (Qi fun v4 S3 => mI S3 → (-2147483648 ≤ v4 ∧ v4 ≤ 2147483647) → (∃ n1, I22 n1 a1 v4 0 S3)))
    (h22 : ∀ (n : Nat) (l1 l2 l3 : Int) (T : mS), mI T → (-2147483648 ≤ l1 ∧ l1 ≤ 2147483647) → (-2147483648 ≤ l2 ∧ l2 ≤ 2147483647) → (-2147483648 ≤ l3 ∧ l3 ≤ 2147483647) → I22 n l1 l2 l3 T → ((8 ≤ l3) → Qp none T) ∧ (¬ (8 ≤ l3) → (-2147483648 ≤ ((8 * l2) : Int) ∧ (8 * l2) ≤ 2147483647) ∧ (-2147483648 ≤ (((8 * l2) + l3) : Int) ∧ ((8 * l2) + l3) ≤ 2147483647) ∧ (-2147483648 ≤ ((8 * l1) : Int) ∧ (8 * l1) ≤ 2147483647) ∧ (-2147483648 ≤ (((8 * l1) + l3) : Int) ∧ ((8 * l1) + l3) ≤ 2147483647) ∧ (0 ≤ ((8 * l1) + l3)) ∧ (((8 * l1) + l3) < 208) ∧ (0 ≤ ((8 * l2) + l3)) ∧ (((8 * l2) + l3) < 160) ∧ (-2147483648 ≤ ((30 * ((8 * l2) + l3)) : Int) ∧ (30 * ((8 * l2) + l3)) ≤ 2147483647) ∧ (-2147483648 ≤ ((8640 + (30 * ((8 * l2) + l3))) : Int) ∧ (8640 + (30 * ((8 * l2) + l3))) ≤ 2147483647) ∧ (-2147483648 ≤ ((30 * ((8 * l1) + l3)) : Int) ∧ (30 * ((8 * l1) + l3)) ≤ 2147483647) ∧ (-2147483648 ≤ ((2400 + (30 * ((8 * l1) + l3))) : Int) ∧ (2400 + (30 * ((8 * l1) + l3))) ≤ 2147483647) ∧ CX_copyNodes g [mt, mi (8640 + (30 * ((8 * l2) + l3))), mi (2400 + (30 * ((8 * l1) + l3))), mi (T 13 ((8 * l1) + l3))] (mup T 82 ((8 * l2) + l3) (T 13 ((8 * l1) + l3))) (Qv fun S13 => mI S13 → (-2147483648 ≤ ((l3 + 1) : Int) ∧ (l3 + 1) ≤ 2147483647) ∧ (∃ n1, n1 < n ∧ I22 n1 l1 l2 (l3 + 1) S13))))
    : CX_noteFunction g [mt, mi a1] S Qp := by
  refine cm_y ⟨by decide, rfl⟩ (by simp [mcat]) (by simp) (fun n pc L st S => (pc = 22 ∧ ∃ (l1 : Int) (l2 : Int) (l3 : Int), L = [some mt, some (mi l1), some (mi l2), some (mi l3)] ∧ st = [] ∧ I22 n l1 l2 l3 S)) ?_ ?_
  · intro ha hS P Y Wk hIc
    have h := hE hS (mokI (ha (mi a1) (by simp)))
    clear hE ha h22
    refine y_aload_n 0 Y dX6_noteFunction_0 rfl ?_
    refine y_iconst 1 Y dX6_noteFunction_1 rfl ?_
    refine y_iload_n 2 Y dX6_noteFunction_2 rfl ?_
    refine y_aload_n 3 Y dX6_noteFunction_3 rfl ?_
    refine y_geta 4 Y 11 dX6_noteFunction_4 rfl rfl ?_
    refine y_iload_n 7 Y dX6_noteFunction_7 rfl ?_
    obtain ⟨o1, h⟩ := h
    obtain ⟨o2, h⟩ := h
    refine y_iald 8 Y dX6_noteFunction_8 rfl rfl o1 o2 (fun _ => ?_)
    refine y_aload_n 9 Y dX6_noteFunction_9 rfl ?_
    refine y_geta 10 Y 12 dX6_noteFunction_10 rfl rfl ?_
    refine y_iload_n 13 Y dX6_noteFunction_13 rfl ?_
    refine y_iald 14 Y dX6_noteFunction_14 rfl rfl o1 o2 (fun _ => ?_)
    refine y_iconst 15 Y dX6_noteFunction_15 rfl ?_
    refine y_call 16 Y (as := [mi 3, mi a1, mi (S 11 a1), mi (S 12 a1), mi 0]) [] dX6_noteFunction_16 rfl rfl rfl rfl rfl h (fun r S3 hq hI hr => ?_)
    obtain ⟨v4, rfl, h⟩ := Qi_ok hq
    replace h := h hI (mokI (hr _ rfl))
    clear hq hr
    refine y_istore_n 19 Y [some mt, some (mi a1), some (mi v4), none] dX6_noteFunction_19 rfl rfl ?_
    refine y_iconst 20 Y dX6_noteFunction_20 rfl ?_
    refine y_istore_n 21 Y [some mt, some (mi a1), some (mi v4), some (mi 0)] dX6_noteFunction_21 rfl rfl ?_
    obtain ⟨n1, h⟩ := h
    exact Wk 22 _ [some mt, some (mi a1), some (mi v4), some (mi 0)] _ _ ⟨rfl, ⟨rfl, ⟨rfl, ⟨rfl, trivial⟩⟩⟩⟩ (hIc n1 _ _ _ _ ((⟨rfl, _, _, _, rfl, rfl, h⟩)))
  · intro n pc L st T hi hS hL P Y Wk hIc
    clear hE
    rcases hi with ⟨rfl, l1, l2, l3, rfl, rfl, hi⟩
    · have h := h22 n l1 l2 l3 T hS (hL 1 _ rfl) (hL 2 _ rfl) (hL 3 _ rfl) hi
      clear hL hi h22
      refine y_iload_n 22 Y dX6_noteFunction_22 rfl ?_
      refine y_bipush 23 Y dX6_noteFunction_23 rfl ?_
      refine y_icmp 25 97 Y dX6_noteFunction_25 rfl rfl (fun c => ?_) (fun c => ?_)
      · replace h := h.1 c
        exact y_ret 97 Y dX6_noteFunction_97 rfl h
      · replace h := h.2 c
        refine y_aload_n 28 Y dX6_noteFunction_28 rfl ?_
        refine y_geta 29 Y 82 dX6_noteFunction_29 rfl rfl ?_
        refine y_bipush 32 Y dX6_noteFunction_32 rfl ?_
        refine y_iload_n 34 Y dX6_noteFunction_34 rfl ?_
        obtain ⟨o1, h⟩ := h
        refine y_imul 35 Y dX6_noteFunction_35 o1 ?_
        refine y_iload_n 36 Y dX6_noteFunction_36 rfl ?_
        obtain ⟨o2, h⟩ := h
        refine y_iadd 37 Y dX6_noteFunction_37 o2 ?_
        refine y_aload_n 38 Y dX6_noteFunction_38 rfl ?_
        refine y_geta 39 Y 13 dX6_noteFunction_39 rfl rfl ?_
        refine y_bipush 42 Y dX6_noteFunction_42 rfl ?_
        refine y_iload_n 44 Y dX6_noteFunction_44 rfl ?_
        obtain ⟨o3, h⟩ := h
        refine y_imul 45 Y dX6_noteFunction_45 o3 ?_
        refine y_iload_n 46 Y dX6_noteFunction_46 rfl ?_
        obtain ⟨o4, h⟩ := h
        refine y_iadd 47 Y dX6_noteFunction_47 o4 ?_
        obtain ⟨o5, h⟩ := h
        obtain ⟨o6, h⟩ := h
        refine y_iald 48 Y dX6_noteFunction_48 rfl rfl o5 o6 (fun _ => ?_)
        obtain ⟨o7, h⟩ := h
        obtain ⟨o8, h⟩ := h
        refine y_iast 49 Y dX6_noteFunction_49 rfl rfl o7 o8 ?_
        refine y_aload_n 50 Y dX6_noteFunction_50 rfl ?_
        refine y_sipush 51 Y dX6_noteFunction_51 rfl ?_
        refine y_bipush 54 Y dX6_noteFunction_54 rfl ?_
        refine y_bipush 56 Y dX6_noteFunction_56 rfl ?_
        refine y_iload_n 58 Y dX6_noteFunction_58 rfl ?_
        refine y_imul 59 Y dX6_noteFunction_59 o1 ?_
        refine y_iload_n 60 Y dX6_noteFunction_60 rfl ?_
        refine y_iadd 61 Y dX6_noteFunction_61 o2 ?_
        obtain ⟨o9, h⟩ := h
        refine y_imul 62 Y dX6_noteFunction_62 o9 ?_
        obtain ⟨o10, h⟩ := h
        refine y_iadd 63 Y dX6_noteFunction_63 o10 ?_
        refine y_sipush 64 Y dX6_noteFunction_64 rfl ?_
        refine y_bipush 67 Y dX6_noteFunction_67 rfl ?_
        refine y_bipush 69 Y dX6_noteFunction_69 rfl ?_
        refine y_iload_n 71 Y dX6_noteFunction_71 rfl ?_
        refine y_imul 72 Y dX6_noteFunction_72 o3 ?_
        refine y_iload_n 73 Y dX6_noteFunction_73 rfl ?_
        refine y_iadd 74 Y dX6_noteFunction_74 o4 ?_
        obtain ⟨o11, h⟩ := h
        refine y_imul 75 Y dX6_noteFunction_75 o11 ?_
        obtain ⟨o12, h⟩ := h
        refine y_iadd 76 Y dX6_noteFunction_76 o12 ?_
        refine y_aload_n 77 Y dX6_noteFunction_77 rfl ?_
        refine y_geta 78 Y 13 dX6_noteFunction_78 rfl rfl ?_
        refine y_bipush 81 Y dX6_noteFunction_81 rfl ?_
        refine y_iload_n 83 Y dX6_noteFunction_83 rfl ?_
        refine y_imul 84 Y dX6_noteFunction_84 o3 ?_
        refine y_iload_n 85 Y dX6_noteFunction_85 rfl ?_
        refine y_iadd 86 Y dX6_noteFunction_86 o4 ?_
        refine y_iald 87 Y dX6_noteFunction_87 rfl rfl o5 o6 (fun _ => ?_)
        refine y_call 88 Y (as := [mi (8640 + (30 * ((8 * l2) + l3))), mi (2400 + (30 * ((8 * l1) + l3))), mi (T 13 ((8 * l1) + l3))]) [] dX6_noteFunction_88 rfl rfl rfl rfl rfl h (fun r S13 hq hI _ => ?_)
        obtain ⟨rfl, h⟩ := Qv_ok hq
        replace h := h hI
        clear hq
        obtain ⟨o14, h⟩ := h
        refine y_iinc 91 Y [some mt, some (mi l1), some (mi l2), some (mi (l3 + 1))] dX6_noteFunction_91 rfl rfl o14 ?_
        refine y_goto 94 22 Y dX6_noteFunction_94 rfl rfl ?_
        obtain ⟨n1, hn, h⟩ := h
        exact Wk 22 _ [some mt, some (mi l1), some (mi l2), some (mi (l3 + 1))] _ _ ⟨rfl, ⟨rfl, ⟨rfl, ⟨rfl, trivial⟩⟩⟩⟩ (hIc n1 _ _ _ _ hn ((⟨rfl, _, _, _, rfl, rfl, h⟩)))
set_option maxHeartbeats 4000000 in
theorem of_noteValue {g : mG} {S : mS} {a1 : Int} {Qp : Option mV → mS → Prop}
    (hE : mI S → (-2147483648 ≤ a1 ∧ a1 ≤ 2147483647) → (0 ≤ a1) ∧ (a1 < 26) ∧ (((S 47 a1) = 0) → CX_note g [mt, mi 2, mi a1, mi 0, mi 0, mi 0] S (Qi fun v4 S3 => mI S3 → (-2147483648 ≤ v4 ∧ v4 ≤ 2147483647) → (-2147483648 ≤ ((27 + v4) : Int) ∧ (27 + v4) ≤ 2147483647) ∧ CX_copyValue g [mt, mi (27 + v4), mi a1] S3 (Qv fun S6 => mI S6 → Qp none S6))) ∧ (¬ ((S 47 a1) = 0) → CX_note g [mt, mi 2, mi a1, mi 1, mi 0, mi 0] S (Qi fun v8 S7 => mI S7 → (-2147483648 ≤ v8 ∧ v8 ≤ 2147483647) → (-2147483648 ≤ ((27 + v8) : Int) ∧ (27 + v8) ≤ 2147483647) ∧ CX_copyValue g [mt, mi (27 + v8), mi a1] S7 (Qv fun S10 => mI S10 → Qp none S10))))
    : CX_noteValue g [mt, mi a1] S Qp := by
  refine cm_y ⟨by decide, rfl⟩ (by simp [mcat]) (by simp) (fun _ _ _ _ _ => False) ?_ ?_
  · intro ha hS P Y Wk hIc
    have h := hE hS (mokI (ha (mi a1) (by simp)))
    clear hE ha
    refine y_aload_n 0 Y dX6_noteValue_0 rfl ?_
    refine y_iconst 1 Y dX6_noteValue_1 rfl ?_
    refine y_iload_n 2 Y dX6_noteValue_2 rfl ?_
    refine y_aload_n 3 Y dX6_noteValue_3 rfl ?_
    refine y_geta 4 Y 47 dX6_noteValue_4 rfl rfl ?_
    refine y_iload_n 7 Y dX6_noteValue_7 rfl ?_
    obtain ⟨o1, h⟩ := h
    obtain ⟨o2, h⟩ := h
    refine y_bald 8 Y dX6_noteValue_8 rfl rfl o1 o2 (fun _ => ?_)
    refine y_if 9 16 Y dX6_noteValue_9 rfl rfl (fun c => ?_) (fun c => ?_)
    · replace h := h.1 c
      refine y_iconst 16 Y dX6_noteValue_16 rfl ?_
      refine y_iconst 17 Y dX6_noteValue_17 rfl ?_
      refine y_iconst 18 Y dX6_noteValue_18 rfl ?_
      refine y_call 19 Y (as := [mi 2, mi a1, mi 0, mi 0, mi 0]) [] dX6_noteValue_19 rfl rfl rfl rfl rfl h (fun r S3 hq hI hr => ?_)
      obtain ⟨v4, rfl, h⟩ := Qi_ok hq
      replace h := h hI (mokI (hr _ rfl))
      clear hq hr
      refine y_istore_n 22 Y [some mt, some (mi a1), some (mi v4)] dX6_noteValue_22 rfl rfl ?_
      refine y_aload_n 23 Y dX6_noteValue_23 rfl ?_
      refine y_bipush 24 Y dX6_noteValue_24 rfl ?_
      refine y_iload_n 26 Y dX6_noteValue_26 rfl ?_
      obtain ⟨o5, h⟩ := h
      refine y_iadd 27 Y dX6_noteValue_27 o5 ?_
      refine y_iload_n 28 Y dX6_noteValue_28 rfl ?_
      refine y_call 29 Y (as := [mi (27 + v4), mi a1]) [] dX6_noteValue_29 rfl rfl rfl rfl rfl h (fun r S6 hq hI _ => ?_)
      obtain ⟨rfl, h⟩ := Qv_ok hq
      replace h := h hI
      clear hq
      exact y_ret 32 Y dX6_noteValue_32 rfl h
    · replace h := h.2 c
      refine y_iconst 12 Y dX6_noteValue_12 rfl ?_
      refine y_goto 13 17 Y dX6_noteValue_13 rfl rfl ?_
      refine y_iconst 17 Y dX6_noteValue_17 rfl ?_
      refine y_iconst 18 Y dX6_noteValue_18 rfl ?_
      refine y_call 19 Y (as := [mi 2, mi a1, mi 1, mi 0, mi 0]) [] dX6_noteValue_19 rfl rfl rfl rfl rfl h (fun r S7 hq hI hr => ?_)
      obtain ⟨v8, rfl, h⟩ := Qi_ok hq
      replace h := h hI (mokI (hr _ rfl))
      clear hq hr
      refine y_istore_n 22 Y [some mt, some (mi a1), some (mi v8)] dX6_noteValue_22 rfl rfl ?_
      refine y_aload_n 23 Y dX6_noteValue_23 rfl ?_
      refine y_bipush 24 Y dX6_noteValue_24 rfl ?_
      refine y_iload_n 26 Y dX6_noteValue_26 rfl ?_
      obtain ⟨o9, h⟩ := h
      refine y_iadd 27 Y dX6_noteValue_27 o9 ?_
      refine y_iload_n 28 Y dX6_noteValue_28 rfl ?_
      refine y_call 29 Y (as := [mi (27 + v8), mi a1]) [] dX6_noteValue_29 rfl rfl rfl rfl rfl h (fun r S10 hq hI _ => ?_)
      obtain ⟨rfl, h⟩ := Qv_ok hq
      replace h := h hI
      clear hq
      exact y_ret 32 Y dX6_noteValue_32 rfl h
  · intro n pc L st T hi
    exact hi.elim
set_option maxHeartbeats 4000000 in
theorem of_opensCall {g : mG} {S : mS} {a1 : Int} {Qp : Option mV → mS → Prop}
    (hE : mI S → (-2147483648 ≤ a1 ∧ a1 ≤ 2147483647) → CX_nextWord g [mt, mi a1] S (Qi fun v2 S1 => mI S1 → (-2147483648 ≤ v2 ∧ v2 ≤ 2147483647) → (((S1 25 0) ≤ v2) → Qp (some (mi 0)) S1) ∧ (¬ ((S1 25 0) ≤ v2) → (0 ≤ v2) ∧ (v2 < 1000) ∧ (((S1 20 v2) ≠ 3) → Qp (some (mi 0)) S1) ∧ (¬ ((S1 20 v2) ≠ 3) → Qp (some (mi 1)) S1))))
    : CX_opensCall g [mt, mi a1] S Qp := by
  refine cm_y ⟨by decide, rfl⟩ (by simp [mcat]) (by simp) (fun _ _ _ _ _ => False) ?_ ?_
  · intro ha hS P Y Wk hIc
    have h := hE hS (mokI (ha (mi a1) (by simp)))
    clear hE ha
    refine y_aload_n 0 Y dX6_opensCall_0 rfl ?_
    refine y_iload_n 1 Y dX6_opensCall_1 rfl ?_
    refine y_call 2 Y (as := [mi a1]) [] dX6_opensCall_2 rfl rfl rfl rfl rfl h (fun r S1 hq hI hr => ?_)
    obtain ⟨v2, rfl, h⟩ := Qi_ok hq
    replace h := h hI (mokI (hr _ rfl))
    clear hq hr
    refine y_istore_n 5 Y [some mt, some (mi a1), some (mi v2)] dX6_opensCall_5 rfl rfl ?_
    refine y_iload_n 6 Y dX6_opensCall_6 rfl ?_
    refine y_aload_n 7 Y dX6_opensCall_7 rfl ?_
    refine y_getf 8 Y 25 dX6_opensCall_8 rfl rfl (fun _ => ?_)
    refine y_icmp 11 28 Y dX6_opensCall_11 rfl rfl (fun c => ?_) (fun c => ?_)
    · replace h := h.1 c
      refine y_iconst 28 Y dX6_opensCall_28 rfl ?_
      exact y_zret 29 Y dX6_opensCall_29 rfl (by decide) h
    · replace h := h.2 c
      refine y_aload_n 14 Y dX6_opensCall_14 rfl ?_
      refine y_geta 15 Y 20 dX6_opensCall_15 rfl rfl ?_
      refine y_iload_n 18 Y dX6_opensCall_18 rfl ?_
      obtain ⟨o3, h⟩ := h
      obtain ⟨o4, h⟩ := h
      refine y_iald 19 Y dX6_opensCall_19 rfl rfl o3 o4 (fun _ => ?_)
      refine y_iconst 20 Y dX6_opensCall_20 rfl ?_
      refine y_icmp 21 28 Y dX6_opensCall_21 rfl rfl (fun c => ?_) (fun c => ?_)
      · replace h := h.1 c
        refine y_iconst 28 Y dX6_opensCall_28 rfl ?_
        exact y_zret 29 Y dX6_opensCall_29 rfl (by decide) h
      · replace h := h.2 c
        refine y_iconst 24 Y dX6_opensCall_24 rfl ?_
        refine y_goto 25 29 Y dX6_opensCall_25 rfl rfl ?_
        exact y_zret 29 Y dX6_opensCall_29 rfl (by decide) h
  · intro n pc L st T hi
    exact hi.elim
set_option maxHeartbeats 4000000 in
theorem of_operandTask {g : mG} {S : mS} {a1 : Int} {Qp : Option mV → mS → Prop}
    (hE : mI S → (-2147483648 ≤ a1 ∧ a1 ≤ 2147483647) → (0 ≤ a1) ∧ (a1 < 20300) ∧ (((S 4 a1) ≠ 3) → CX_task g [mt, mi 10, mi a1] S (Qv fun S3 => mI S3 → Qp none S3)) ∧ (¬ ((S 4 a1) ≠ 3) → CX_task g [mt, mi 12, mi 0] S (Qv fun S4 => mI S4 → CX_task g [mt, mi 10, mi a1] S4 (Qv fun S5 => mI S5 → CX_task g [mt, mi 11, mi 0] S5 (Qv fun S6 => mI S6 → Qp none S6)))))
    : CX_operandTask g [mt, mi a1] S Qp := by
  refine cm_y ⟨by decide, rfl⟩ (by simp [mcat]) (by simp) (fun _ _ _ _ _ => False) ?_ ?_
  · intro ha hS P Y Wk hIc
    have h := hE hS (mokI (ha (mi a1) (by simp)))
    clear hE ha
    refine y_aload_n 0 Y dX6_operandTask_0 rfl ?_
    refine y_geta 1 Y 4 dX6_operandTask_1 rfl rfl ?_
    refine y_iload_n 4 Y dX6_operandTask_4 rfl ?_
    obtain ⟨o1, h⟩ := h
    obtain ⟨o2, h⟩ := h
    refine y_iald 5 Y dX6_operandTask_5 rfl rfl o1 o2 (fun _ => ?_)
    refine y_iconst 6 Y dX6_operandTask_6 rfl ?_
    refine y_icmp 7 14 Y dX6_operandTask_7 rfl rfl (fun c => ?_) (fun c => ?_)
    · replace h := h.1 c
      refine y_iconst 14 Y dX6_operandTask_14 rfl ?_
      refine y_istore_n 15 Y [some mt, some (mi a1), some (mi 0)] dX6_operandTask_15 rfl rfl ?_
      refine y_iload_n 16 Y dX6_operandTask_16 rfl ?_
      refine y_if 17 27 Y dX6_operandTask_17 rfl rfl (fun _ => ?_) (fun c => absurd (show (0 : Int) = 0 by decide) c)
      refine y_aload_n 27 Y dX6_operandTask_27 rfl ?_
      refine y_bipush 28 Y dX6_operandTask_28 rfl ?_
      refine y_iload_n 30 Y dX6_operandTask_30 rfl ?_
      refine y_call 31 Y (as := [mi 10, mi a1]) [] dX6_operandTask_31 rfl rfl rfl rfl rfl h (fun r S3 hq hI _ => ?_)
      obtain ⟨rfl, h⟩ := Qv_ok hq
      replace h := h hI
      clear hq
      refine y_iload_n 34 Y dX6_operandTask_34 rfl ?_
      refine y_if 35 45 Y dX6_operandTask_35 rfl rfl (fun _ => ?_) (fun c => absurd (show (0 : Int) = 0 by decide) c)
      exact y_ret 45 Y dX6_operandTask_45 rfl h
    · replace h := h.2 c
      refine y_iconst 10 Y dX6_operandTask_10 rfl ?_
      refine y_goto 11 15 Y dX6_operandTask_11 rfl rfl ?_
      refine y_istore_n 15 Y [some mt, some (mi a1), some (mi 1)] dX6_operandTask_15 rfl rfl ?_
      refine y_iload_n 16 Y dX6_operandTask_16 rfl ?_
      refine y_if 17 27 Y dX6_operandTask_17 rfl rfl (fun c => absurd c (show ¬ ((1 : Int) = 0) by decide)) (fun _ => ?_)
      refine y_aload_n 20 Y dX6_operandTask_20 rfl ?_
      refine y_bipush 21 Y dX6_operandTask_21 rfl ?_
      refine y_iconst 23 Y dX6_operandTask_23 rfl ?_
      refine y_call 24 Y (as := [mi 12, mi 0]) [] dX6_operandTask_24 rfl rfl rfl rfl rfl h (fun r S4 hq hI _ => ?_)
      obtain ⟨rfl, h⟩ := Qv_ok hq
      replace h := h hI
      clear hq
      refine y_aload_n 27 Y dX6_operandTask_27 rfl ?_
      refine y_bipush 28 Y dX6_operandTask_28 rfl ?_
      refine y_iload_n 30 Y dX6_operandTask_30 rfl ?_
      refine y_call 31 Y (as := [mi 10, mi a1]) [] dX6_operandTask_31 rfl rfl rfl rfl rfl h (fun r S5 hq hI _ => ?_)
      obtain ⟨rfl, h⟩ := Qv_ok hq
      replace h := h hI
      clear hq
      refine y_iload_n 34 Y dX6_operandTask_34 rfl ?_
      refine y_if 35 45 Y dX6_operandTask_35 rfl rfl (fun c => absurd c (show ¬ ((1 : Int) = 0) by decide)) (fun _ => ?_)
      refine y_aload_n 38 Y dX6_operandTask_38 rfl ?_
      refine y_bipush 39 Y dX6_operandTask_39 rfl ?_
      refine y_iconst 41 Y dX6_operandTask_41 rfl ?_
      refine y_call 42 Y (as := [mi 11, mi 0]) [] dX6_operandTask_42 rfl rfl rfl rfl rfl h (fun r S6 hq hI _ => ?_)
      obtain ⟨rfl, h⟩ := Qv_ok hq
      replace h := h hI
      clear hq
      exact y_ret 45 Y dX6_operandTask_45 rfl h
  · intro n pc L st T hi
    exact hi.elim
set_option maxHeartbeats 4000000 in
theorem of_out {g : mG} {S : mS} {a1 : Int} {Qp : Option mV → mS → Prop}
    (hE : mI S → (-2147483648 ≤ a1 ∧ a1 ≤ 2147483647) → (-2147483648 ≤ (((S 42 0) - 1) : Int) ∧ ((S 42 0) - 1) ≤ 2147483647) ∧ CX_in g [mi a1, mi 0, mi ((S 42 0) - 1)] S (Qi fun v3 S2 => mI S2 → (-2147483648 ≤ v3 ∧ v3 ≤ 2147483647) → ((v3 ≠ 0) → CX_refused g [mt, mi 0, mi 0, mi 0] S2 (Qi fun v5 S4 => mI S4 → (-2147483648 ≤ v5 ∧ v5 ≤ 2147483647) → ((v5 = 0) → (0 ≤ a1) ∧ (a1 < 2000) ∧ Qp (some (mi (S4 41 a1))) S4) ∧ (¬ (v5 = 0) → Qp (some (mi 0)) S4))) ∧ (¬ (v3 ≠ 0) → CX_refused g [mt, mi 1, mi 0, mi 0] S2 (Qi fun v9 S8 => mI S8 → (-2147483648 ≤ v9 ∧ v9 ≤ 2147483647) → ((v9 = 0) → (0 ≤ a1) ∧ (a1 < 2000) ∧ Qp (some (mi (S8 41 a1))) S8) ∧ (¬ (v9 = 0) → Qp (some (mi 0)) S8)))))
    : CX_out g [mt, mi a1] S Qp := by
  refine cm_y ⟨by decide, rfl⟩ (by simp [mcat]) (by simp) (fun _ _ _ _ _ => False) ?_ ?_
  · intro ha hS P Y Wk hIc
    have h := hE hS (mokI (ha (mi a1) (by simp)))
    clear hE ha
    refine y_aload_n 0 Y dX6_out_0 rfl ?_
    refine y_iload_n 1 Y dX6_out_1 rfl ?_
    refine y_iconst 2 Y dX6_out_2 rfl ?_
    refine y_aload_n 3 Y dX6_out_3 rfl ?_
    refine y_getf 4 Y 42 dX6_out_4 rfl rfl (fun _ => ?_)
    refine y_iconst 7 Y dX6_out_7 rfl ?_
    obtain ⟨o1, h⟩ := h
    refine y_isub 8 Y dX6_out_8 o1 ?_
    refine y_calls 9 Y (as := [mi a1, mi 0, mi ((S 42 0) - 1)]) [mt] dX6_out_9 rfl rfl rfl rfl rfl h (fun r S2 hq hI hr => ?_)
    obtain ⟨v3, rfl, h⟩ := Qi_ok hq
    replace h := h hI (mokI (hr _ rfl))
    clear hq hr
    refine y_if 12 19 Y dX6_out_12 rfl rfl (fun c => ?_) (fun c => ?_)
    · replace h := h.1 c
      refine y_iconst 19 Y dX6_out_19 rfl ?_
      refine y_iconst 20 Y dX6_out_20 rfl ?_
      refine y_iconst 21 Y dX6_out_21 rfl ?_
      refine y_call 22 Y (as := [mi 0, mi 0, mi 0]) [] dX6_out_22 rfl rfl rfl rfl rfl h (fun r S4 hq hI hr => ?_)
      obtain ⟨v5, rfl, h⟩ := Qi_ok hq
      replace h := h hI (mokI (hr _ rfl))
      clear hq hr
      refine y_if 25 32 Y dX6_out_25 rfl rfl (fun c => ?_) (fun c => ?_)
      · replace h := h.1 c
        refine y_aload_n 32 Y dX6_out_32 rfl ?_
        refine y_geta 33 Y 41 dX6_out_33 rfl rfl ?_
        refine y_iload_n 36 Y dX6_out_36 rfl ?_
        obtain ⟨o6, h⟩ := h
        obtain ⟨o7, h⟩ := h
        refine y_iald 37 Y dX6_out_37 rfl rfl o6 o7 (fun _ => ?_)
        exact y_iret 38 Y dX6_out_38 rfl h
      · replace h := h.2 c
        refine y_iconst 28 Y dX6_out_28 rfl ?_
        refine y_goto 29 38 Y dX6_out_29 rfl rfl ?_
        exact y_iret 38 Y dX6_out_38 rfl h
    · replace h := h.2 c
      refine y_iconst 15 Y dX6_out_15 rfl ?_
      refine y_goto 16 20 Y dX6_out_16 rfl rfl ?_
      refine y_iconst 20 Y dX6_out_20 rfl ?_
      refine y_iconst 21 Y dX6_out_21 rfl ?_
      refine y_call 22 Y (as := [mi 1, mi 0, mi 0]) [] dX6_out_22 rfl rfl rfl rfl rfl h (fun r S8 hq hI hr => ?_)
      obtain ⟨v9, rfl, h⟩ := Qi_ok hq
      replace h := h hI (mokI (hr _ rfl))
      clear hq hr
      refine y_if 25 32 Y dX6_out_25 rfl rfl (fun c => ?_) (fun c => ?_)
      · replace h := h.1 c
        refine y_aload_n 32 Y dX6_out_32 rfl ?_
        refine y_geta 33 Y 41 dX6_out_33 rfl rfl ?_
        refine y_iload_n 36 Y dX6_out_36 rfl ?_
        obtain ⟨o10, h⟩ := h
        obtain ⟨o11, h⟩ := h
        refine y_iald 37 Y dX6_out_37 rfl rfl o10 o11 (fun _ => ?_)
        exact y_iret 38 Y dX6_out_38 rfl h
      · replace h := h.2 c
        refine y_iconst 28 Y dX6_out_28 rfl ?_
        refine y_goto 29 38 Y dX6_out_29 rfl rfl ?_
        exact y_iret 38 Y dX6_out_38 rfl h
  · intro n pc L st T hi
    exact hi.elim
set_option maxHeartbeats 4000000 in
theorem of_outNumber {g : mG} {S : mS} {a1 : Int} {Qp : Option mV → mS → Prop} (I2 : Nat → Int → Int → mS → Prop) (I18 : Nat → Int → Int → mS → Prop)
    (hE : mI S → (-2147483648 ≤ a1 ∧ a1 ≤ 2147483647) → (∃ n1, I2 n1 a1 1 S))
    (h2 : ∀ (n : Nat) (l1 l2 : Int) (T : mS), mI T → (-2147483648 ≤ l1 ∧ l1 ≤ 2147483647) → (-2147483648 ≤ l2 ∧ l2 ≤ 2147483647) → I2 n l1 l2 T → (0 ≤ l1) ∧ (0 < l2) ∧ (((l1 / l2) < 10) → (∃ n1, n1 < n ∧ I18 n1 l1 l2 T)) ∧ (¬ ((l1 / l2) < 10) → (-2147483648 ≤ ((l2 * 10) : Int) ∧ (l2 * 10) ≤ 2147483647) ∧ (∃ n1, n1 < n ∧ I2 n1 l1 (l2 * 10) T)))
    (h18 : ∀ (n : Nat) (l1 l2 : Int) (T : mS), mI T → (-2147483648 ≤ l1 ∧ l1 ≤ 2147483647) → (-2147483648 ≤ l2 ∧ l2 ≤ 2147483647) → I18 n l1 l2 T → ((l2 ≤ 0) → Qp none T) ∧ (¬ (l2 ≤ 0) → (0 ≤ l1) ∧ (0 < l2) ∧ (0 ≤ (l1 / l2)) ∧ (-2147483648 ≤ ((48 + ((l1 / l2) % 10)) : Int) ∧ (48 + ((l1 / l2) % 10)) ≤ 2147483647) ∧ CX_prints g [mt, mi (48 + ((l1 / l2) % 10))] T (Qv fun S5 => mI S5 → (0 ≤ l2) ∧ (∃ n1, n1 < n ∧ I18 n1 l1 (l2 / 10) S5))))
    : CX_outNumber g [mt, mi a1] S Qp := by
  refine cm_y ⟨by decide, rfl⟩ (by simp [mcat]) (by simp) (fun n pc L st S => (pc = 2 ∧ ∃ (l1 : Int) (l2 : Int), L = [some mt, some (mi l1), some (mi l2)] ∧ st = [] ∧ I2 n l1 l2 S) ∨ (pc = 18 ∧ ∃ (l1 : Int) (l2 : Int), L = [some mt, some (mi l1), some (mi l2)] ∧ st = [] ∧ I18 n l1 l2 S)) ?_ ?_
  · intro ha hS P Y Wk hIc
    have h := hE hS (mokI (ha (mi a1) (by simp)))
    clear hE ha h2 h18
    refine y_iconst 0 Y dX6_outNumber_0 rfl ?_
    refine y_istore_n 1 Y [some mt, some (mi a1), some (mi 1)] dX6_outNumber_1 rfl rfl ?_
    obtain ⟨n1, h⟩ := h
    exact Wk 2 _ [some mt, some (mi a1), some (mi 1)] _ _ ⟨rfl, ⟨rfl, ⟨rfl, trivial⟩⟩⟩ (hIc n1 _ _ _ _ (Or.inl (⟨rfl, _, _, rfl, rfl, h⟩)))
  · intro n pc L st T hi hS hL P Y Wk hIc
    clear hE
    rcases hi with ⟨rfl, l1, l2, rfl, rfl, hi⟩ | ⟨rfl, l1, l2, rfl, rfl, hi⟩
    · have h := h2 n l1 l2 T hS (hL 1 _ rfl) (hL 2 _ rfl) hi
      clear hL hi h2 h18
      refine y_iload_n 2 Y dX6_outNumber_2 rfl ?_
      refine y_iload_n 3 Y dX6_outNumber_3 rfl ?_
      obtain ⟨o1, h⟩ := h
      obtain ⟨o2, h⟩ := h
      refine y_idiv 4 Y dX6_outNumber_4 o1 o2 ?_
      refine y_bipush 5 Y dX6_outNumber_5 rfl ?_
      refine y_icmp 7 18 Y dX6_outNumber_7 rfl rfl (fun c => ?_) (fun c => ?_)
      · replace h := h.1 c
        obtain ⟨n1, hn, h⟩ := h
        exact Wk 18 _ [some mt, some (mi l1), some (mi l2)] _ _ ⟨rfl, ⟨rfl, ⟨rfl, trivial⟩⟩⟩ (hIc n1 _ _ _ _ hn (Or.inr ((⟨rfl, _, _, rfl, rfl, h⟩))))
      · replace h := h.2 c
        refine y_iload_n 10 Y dX6_outNumber_10 rfl ?_
        refine y_bipush 11 Y dX6_outNumber_11 rfl ?_
        obtain ⟨o3, h⟩ := h
        refine y_imul 13 Y dX6_outNumber_13 o3 ?_
        refine y_istore_n 14 Y [some mt, some (mi l1), some (mi (l2 * 10))] dX6_outNumber_14 rfl rfl ?_
        refine y_goto 15 2 Y dX6_outNumber_15 rfl rfl ?_
        obtain ⟨n1, hn, h⟩ := h
        exact Wk 2 _ [some mt, some (mi l1), some (mi (l2 * 10))] _ _ ⟨rfl, ⟨rfl, ⟨rfl, trivial⟩⟩⟩ (hIc n1 _ _ _ _ hn (Or.inl (⟨rfl, _, _, rfl, rfl, h⟩)))
    · have h := h18 n l1 l2 T hS (hL 1 _ rfl) (hL 2 _ rfl) hi
      clear hL hi h2 h18
      refine y_iload_n 18 Y dX6_outNumber_18 rfl ?_
      refine y_if 19 43 Y dX6_outNumber_19 rfl rfl (fun c => ?_) (fun c => ?_)
      · replace h := h.1 c
        exact y_ret 43 Y dX6_outNumber_43 rfl h
      · replace h := h.2 c
        refine y_aload_n 22 Y dX6_outNumber_22 rfl ?_
        refine y_bipush 23 Y dX6_outNumber_23 rfl ?_
        refine y_iload_n 25 Y dX6_outNumber_25 rfl ?_
        refine y_iload_n 26 Y dX6_outNumber_26 rfl ?_
        obtain ⟨o1, h⟩ := h
        obtain ⟨o2, h⟩ := h
        refine y_idiv 27 Y dX6_outNumber_27 o1 o2 ?_
        refine y_bipush 28 Y dX6_outNumber_28 rfl ?_
        obtain ⟨o3, h⟩ := h
        refine y_irem 30 Y dX6_outNumber_30 o3 (by decide) ?_
        obtain ⟨o4, h⟩ := h
        refine y_iadd 31 Y dX6_outNumber_31 o4 ?_
        refine y_call 32 Y (as := [mi (48 + ((l1 / l2) % 10))]) [] dX6_outNumber_32 rfl rfl rfl rfl rfl h (fun r S5 hq hI _ => ?_)
        obtain ⟨rfl, h⟩ := Qv_ok hq
        replace h := h hI
        clear hq
        refine y_iload_n 35 Y dX6_outNumber_35 rfl ?_
        refine y_bipush 36 Y dX6_outNumber_36 rfl ?_
        obtain ⟨o6, h⟩ := h
        refine y_idiv 38 Y dX6_outNumber_38 o6 (by decide) ?_
        refine y_istore_n 39 Y [some mt, some (mi l1), some (mi (l2 / 10))] dX6_outNumber_39 rfl rfl ?_
        refine y_goto 40 18 Y dX6_outNumber_40 rfl rfl ?_
        obtain ⟨n1, hn, h⟩ := h
        exact Wk 18 _ [some mt, some (mi l1), some (mi (l2 / 10))] _ _ ⟨rfl, ⟨rfl, ⟨rfl, trivial⟩⟩⟩ (hIc n1 _ _ _ _ hn (Or.inr ((⟨rfl, _, _, rfl, rfl, h⟩))))
set_option maxHeartbeats 4000000 in
theorem of_put {g : mG} {S : mS} {a1 a2 : Int} {Qp : Option mV → mS → Prop}
    (hE : mI S → (-2147483648 ≤ a1 ∧ a1 ≤ 2147483647) → (-2147483648 ≤ a2 ∧ a2 ≤ 2147483647) → (-2147483648 ≤ ((440 * a1) : Int) ∧ (440 * a1) ≤ 2147483647) ∧ (0 ≤ (440 * a1)) ∧ ((440 * a1) < 7040) ∧ (-2147483648 ≤ (((440 * a1) + 1) : Int) ∧ ((440 * a1) + 1) ≤ 2147483647) ∧ (0 ≤ a2) ∧ (0 ≤ ((440 * a1) + 1)) ∧ (((440 * a1) + 1) < 7040) ∧ (0 ≤ a1) ∧ (a1 < 16) ∧ CX_trim g [mt, mi a1] (mup (mup (mup S 1 (440 * a1) (a2 % 65536)) 1 ((440 * a1) + 1) (a2 / 65536)) 2 a1 2) (Qv fun S10 => mI S10 → Qp none S10))
    : CX_put g [mt, mi a1, mi a2] S Qp := by
  refine cm_y ⟨by decide, rfl⟩ (by simp [mcat]) (by simp) (fun _ _ _ _ _ => False) ?_ ?_
  · intro ha hS P Y Wk hIc
    have h := hE hS (mokI (ha (mi a1) (by simp))) (mokI (ha (mi a2) (by simp)))
    clear hE ha
    refine y_aload_n 0 Y dX6_put_0 rfl ?_
    refine y_geta 1 Y 1 dX6_put_1 rfl rfl ?_
    refine y_sipush 4 Y dX6_put_4 rfl ?_
    refine y_iload_n 7 Y dX6_put_7 rfl ?_
    obtain ⟨o1, h⟩ := h
    refine y_imul 8 Y dX6_put_8 o1 ?_
    refine y_iload_n 9 Y dX6_put_9 rfl ?_
    refine y_ldc 10 Y dX6_put_10 rfl ?_
    refine y_iand 12 Y dX6_put_12 mm_65535 ?_
    obtain ⟨o2, h⟩ := h
    obtain ⟨o3, h⟩ := h
    refine y_iast 13 Y dX6_put_13 rfl rfl o2 o3 ?_
    refine y_aload_n 14 Y dX6_put_14 rfl ?_
    refine y_geta 15 Y 1 dX6_put_15 rfl rfl ?_
    refine y_sipush 18 Y dX6_put_18 rfl ?_
    refine y_iload_n 21 Y dX6_put_21 rfl ?_
    refine y_imul 22 Y dX6_put_22 o1 ?_
    refine y_iconst 23 Y dX6_put_23 rfl ?_
    obtain ⟨o4, h⟩ := h
    refine y_iadd 24 Y dX6_put_24 o4 ?_
    refine y_iload_n 25 Y dX6_put_25 rfl ?_
    refine y_bipush 26 Y dX6_put_26 rfl ?_
    obtain ⟨o5, h⟩ := h
    refine y_iushr 28 Y 65536 rfl dX6_put_28 o5 (by decide) (by decide) ?_
    obtain ⟨o6, h⟩ := h
    obtain ⟨o7, h⟩ := h
    refine y_iast 29 Y dX6_put_29 rfl rfl o6 o7 ?_
    refine y_aload_n 30 Y dX6_put_30 rfl ?_
    refine y_geta 31 Y 2 dX6_put_31 rfl rfl ?_
    refine y_iload_n 34 Y dX6_put_34 rfl ?_
    refine y_iconst 35 Y dX6_put_35 rfl ?_
    obtain ⟨o8, h⟩ := h
    obtain ⟨o9, h⟩ := h
    refine y_iast 36 Y dX6_put_36 rfl rfl o8 o9 ?_
    refine y_aload_n 37 Y dX6_put_37 rfl ?_
    refine y_iload_n 38 Y dX6_put_38 rfl ?_
    refine y_call 39 Y (as := [mi a1]) [] dX6_put_39 rfl rfl rfl rfl rfl h (fun r S10 hq hI _ => ?_)
    obtain ⟨rfl, h⟩ := Qv_ok hq
    replace h := h hI
    clear hq
    exact y_ret 42 Y dX6_put_42 rfl h
  · intro n pc L st T hi
    exact hi.elim
set_option maxHeartbeats 4000000 in
theorem of_rankOf {g : mG} {S : mS} {a1 a2 : Int} {Qp : Option mV → mS → Prop}
    (hE : mI S → (-2147483648 ≤ a1 ∧ a1 ≤ 2147483647) → (-2147483648 ≤ a2 ∧ a2 ≤ 2147483647) → CX_signOf g [mi a1] S (Qi fun v2 S1 => mI S1 → (-2147483648 ≤ v2 ∧ v2 ≤ 2147483647) → (-2147483648 ≤ ((3 * v2) : Int) ∧ (3 * v2) ≤ 2147483647) ∧ (-2147483648 ≤ (((3 * v2) + a2) : Int) ∧ ((3 * v2) + a2) ≤ 2147483647) ∧ (0 ≤ ((3 * v2) + a2)) ∧ (((3 * v2) + a2) < 48) ∧ Qp (some (mi (S1 15 ((3 * v2) + a2)))) S1))
    : CX_rankOf g [mt, mi a1, mi a2] S Qp := by
  refine cm_y ⟨by decide, rfl⟩ (by simp [mcat]) (by simp) (fun _ _ _ _ _ => False) ?_ ?_
  · intro ha hS P Y Wk hIc
    have h := hE hS (mokI (ha (mi a1) (by simp))) (mokI (ha (mi a2) (by simp)))
    clear hE ha
    refine y_aload_n 0 Y dX6_rankOf_0 rfl ?_
    refine y_geta 1 Y 15 dX6_rankOf_1 rfl rfl ?_
    refine y_iconst 4 Y dX6_rankOf_4 rfl ?_
    refine y_iload_n 5 Y dX6_rankOf_5 rfl ?_
    refine y_calls 6 Y (as := [mi a1]) [mi 3, mr 15] dX6_rankOf_6 rfl rfl rfl rfl rfl h (fun r S1 hq hI hr => ?_)
    obtain ⟨v2, rfl, h⟩ := Qi_ok hq
    replace h := h hI (mokI (hr _ rfl))
    clear hq hr
    obtain ⟨o3, h⟩ := h
    refine y_imul 9 Y dX6_rankOf_9 o3 ?_
    refine y_iload_n 10 Y dX6_rankOf_10 rfl ?_
    obtain ⟨o4, h⟩ := h
    refine y_iadd 11 Y dX6_rankOf_11 o4 ?_
    obtain ⟨o5, h⟩ := h
    obtain ⟨o6, h⟩ := h
    refine y_iald 12 Y dX6_rankOf_12 rfl rfl o5 o6 (fun _ => ?_)
    exact y_iret 13 Y dX6_rankOf_13 rfl h
  · intro n pc L st T hi
    exact hi.elim
set_option maxHeartbeats 4000000 in
theorem of_reduce {g : mG} {S : mS} {a1 : Int} {Qp : Option mV → mS → Prop} (I0 : Nat → Int → mS → Prop)
    (hE : mI S → (-2147483648 ≤ a1 ∧ a1 ≤ 2147483647) → (∃ n1, I0 n1 a1 S))
    (h0 : ∀ (n : Nat) (l1 : Int) (T : mS), mI T → (-2147483648 ≤ l1 ∧ l1 ≤ 2147483647) → I0 n l1 T → (((T 40 0) ≤ 0) → Qp none T) ∧ (¬ ((T 40 0) ≤ 0) → (-2147483648 ≤ (((T 40 0) - 1) : Int) ∧ ((T 40 0) - 1) ≤ 2147483647) ∧ (0 ≤ ((T 40 0) - 1)) ∧ (((T 40 0) - 1) < 600) ∧ (((T 37 ((T 40 0) - 1)) < 2) → Qp none T) ∧ (¬ ((T 37 ((T 40 0) - 1)) < 2) → (((T 39 ((T 40 0) - 1)) ≤ l1) → Qp none T) ∧ (¬ ((T 39 ((T 40 0) - 1)) ≤ l1) → (-2147483648 ≤ ((mup T 40 0 ((T 40 0) - 1)) 40 0) ∧ ((mup T 40 0 ((T 40 0) - 1)) 40 0) ≤ 2147483647 → (0 ≤ ((mup T 40 0 ((T 40 0) - 1)) 40 0)) ∧ (((mup T 40 0 ((T 40 0) - 1)) 40 0) < 600) ∧ (((T 37 ((mup T 40 0 ((T 40 0) - 1)) 40 0)) ≠ 2) → (-2147483648 ≤ ((mup T 40 0 ((T 40 0) - 1)) 40 0) ∧ ((mup T 40 0 ((T 40 0) - 1)) 40 0) ≤ 2147483647 → CX_does g [mt, mi 3, mi (T 38 ((mup T 40 0 ((T 40 0) - 1)) 40 0)), mi 2, mi 2] (mup T 40 0 ((T 40 0) - 1)) (Qv fun S6 => mI S6 → (∃ n1, n1 < n ∧ I0 n1 l1 S6)))) ∧ (¬ ((T 37 ((mup T 40 0 ((T 40 0) - 1)) 40 0)) ≠ 2) → (-2147483648 ≤ ((mup T 40 0 ((T 40 0) - 1)) 40 0) ∧ ((mup T 40 0 ((T 40 0) - 1)) 40 0) ≤ 2147483647 → CX_does g [mt, mi 3, mi (T 38 ((mup T 40 0 ((T 40 0) - 1)) 40 0)), mi 0, mi 1] (mup T 40 0 ((T 40 0) - 1)) (Qv fun S7 => mI S7 → (∃ n1, n1 < n ∧ I0 n1 l1 S7)))))))))
    : CX_reduce g [mt, mi a1] S Qp := by
  refine cm_y ⟨by decide, rfl⟩ (by simp [mcat]) (by simp) (fun n pc L st S => (pc = 0 ∧ ∃ (l1 : Int), L = [some mt, some (mi l1), none] ∧ st = [] ∧ I0 n l1 S)) ?_ ?_
  · intro ha hS P Y Wk hIc
    have h := hE hS (mokI (ha (mi a1) (by simp)))
    clear hE ha h0
    obtain ⟨n1, h⟩ := h
    exact Wk 0 _ [some mt, some (mi a1), none] _ _ ⟨rfl, ⟨rfl, trivial⟩⟩ (hIc n1 _ _ _ _ ((⟨rfl, _, rfl, rfl, h⟩)))
  · intro n pc L st T hi hS hL P Y Wk hIc
    clear hE
    rcases hi with ⟨rfl, l1, rfl, rfl, hi⟩
    · have h := h0 n l1 T hS (hL 1 _ rfl) hi
      clear hL hi h0
      refine y_aload_n 0 Y dX6_reduce_0 rfl ?_
      refine y_getf 1 Y 40 dX6_reduce_1 rfl rfl (fun _ => ?_)
      refine y_if 4 101 Y dX6_reduce_4 rfl rfl (fun c => ?_) (fun c => ?_)
      · replace h := h.1 c
        exact y_ret 101 Y dX6_reduce_101 rfl h
      · replace h := h.2 c
        refine y_aload_n 7 Y dX6_reduce_7 rfl ?_
        refine y_geta 8 Y 37 dX6_reduce_8 rfl rfl ?_
        refine y_aload_n 11 Y dX6_reduce_11 rfl ?_
        refine y_getf 12 Y 40 dX6_reduce_12 rfl rfl (fun _ => ?_)
        refine y_iconst 15 Y dX6_reduce_15 rfl ?_
        obtain ⟨o1, h⟩ := h
        refine y_isub 16 Y dX6_reduce_16 o1 ?_
        obtain ⟨o2, h⟩ := h
        obtain ⟨o3, h⟩ := h
        refine y_iald 17 Y dX6_reduce_17 rfl rfl o2 o3 (fun _ => ?_)
        refine y_iconst 18 Y dX6_reduce_18 rfl ?_
        refine y_icmp 19 101 Y dX6_reduce_19 rfl rfl (fun c => ?_) (fun c => ?_)
        · replace h := h.1 c
          exact y_ret 101 Y dX6_reduce_101 rfl h
        · replace h := h.2 c
          refine y_aload_n 22 Y dX6_reduce_22 rfl ?_
          refine y_geta 23 Y 39 dX6_reduce_23 rfl rfl ?_
          refine y_aload_n 26 Y dX6_reduce_26 rfl ?_
          refine y_getf 27 Y 40 dX6_reduce_27 rfl rfl (fun _ => ?_)
          refine y_iconst 30 Y dX6_reduce_30 rfl ?_
          refine y_isub 31 Y dX6_reduce_31 o1 ?_
          refine y_iald 32 Y dX6_reduce_32 rfl rfl o2 o3 (fun _ => ?_)
          refine y_iload_n 33 Y dX6_reduce_33 rfl ?_
          refine y_icmp 34 101 Y dX6_reduce_34 rfl rfl (fun c => ?_) (fun c => ?_)
          · replace h := h.1 c
            exact y_ret 101 Y dX6_reduce_101 rfl h
          · replace h := h.2 c
            refine y_aload_n 37 Y dX6_reduce_37 rfl ?_
            refine y_dup 38 Y dX6_reduce_38 rfl ?_
            refine y_getf 39 Y 40 dX6_reduce_39 rfl rfl (fun _ => ?_)
            refine y_iconst 42 Y dX6_reduce_42 rfl ?_
            refine y_isub 43 Y dX6_reduce_43 o1 ?_
            refine y_putf 44 Y 40 dX6_reduce_44 rfl rfl (fun q => absurd q (by decide)) ?_
            refine y_aload_n 47 Y dX6_reduce_47 rfl ?_
            refine y_geta 48 Y 37 dX6_reduce_48 rfl rfl ?_
            refine y_aload_n 51 Y dX6_reduce_51 rfl ?_
            refine y_getf 52 Y 40 dX6_reduce_52 rfl rfl (fun q => ?_)
            replace h := h q
            obtain ⟨o4, h⟩ := h
            obtain ⟨o5, h⟩ := h
            refine y_iald 55 Y dX6_reduce_55 rfl rfl o4 o5 (fun _ => ?_)
            refine y_iconst 56 Y dX6_reduce_56 rfl ?_
            refine y_icmp 57 64 Y dX6_reduce_57 rfl rfl (fun c => ?_) (fun c => ?_)
            · replace h := h.1 c
              refine y_iconst 64 Y dX6_reduce_64 rfl ?_
              refine y_istore_n 65 Y [some mt, some (mi l1), some (mi 0)] dX6_reduce_65 rfl rfl ?_
              refine y_aload_n 66 Y dX6_reduce_66 rfl ?_
              refine y_iconst 67 Y dX6_reduce_67 rfl ?_
              refine y_aload_n 68 Y dX6_reduce_68 rfl ?_
              refine y_geta 69 Y 38 dX6_reduce_69 rfl rfl ?_
              refine y_aload_n 72 Y dX6_reduce_72 rfl ?_
              refine y_getf 73 Y 40 dX6_reduce_73 rfl rfl (fun q => ?_)
              replace h := h q
              refine y_iald 76 Y dX6_reduce_76 rfl rfl o4 o5 (fun _ => ?_)
              refine y_iload_n 77 Y dX6_reduce_77 rfl ?_
              refine y_if 78 85 Y dX6_reduce_78 rfl rfl (fun _ => ?_) (fun c => absurd (show (0 : Int) = 0 by decide) c)
              refine y_iconst 85 Y dX6_reduce_85 rfl ?_
              refine y_iload_n 86 Y dX6_reduce_86 rfl ?_
              refine y_if 87 94 Y dX6_reduce_87 rfl rfl (fun _ => ?_) (fun c => absurd (show (0 : Int) = 0 by decide) c)
              refine y_iconst 94 Y dX6_reduce_94 rfl ?_
              refine y_call 95 Y (as := [mi 3, mi (T 38 ((mup T 40 0 ((T 40 0) - 1)) 40 0)), mi 2, mi 2]) [] dX6_reduce_95 rfl rfl rfl rfl rfl h (fun r S6 hq hI _ => ?_)
              obtain ⟨rfl, h⟩ := Qv_ok hq
              replace h := h hI
              clear hq
              refine y_goto 98 0 Y dX6_reduce_98 rfl rfl ?_
              obtain ⟨n1, hn, h⟩ := h
              exact Wk 0 _ [some mt, some (mi l1), none] _ _ ⟨rfl, ⟨rfl, trivial⟩⟩ (hIc n1 _ _ _ _ hn ((⟨rfl, _, rfl, rfl, h⟩)))
            · replace h := h.2 c
              refine y_iconst 60 Y dX6_reduce_60 rfl ?_
              refine y_goto 61 65 Y dX6_reduce_61 rfl rfl ?_
              refine y_istore_n 65 Y [some mt, some (mi l1), some (mi 1)] dX6_reduce_65 rfl rfl ?_
              refine y_aload_n 66 Y dX6_reduce_66 rfl ?_
              refine y_iconst 67 Y dX6_reduce_67 rfl ?_
              refine y_aload_n 68 Y dX6_reduce_68 rfl ?_
              refine y_geta 69 Y 38 dX6_reduce_69 rfl rfl ?_
              refine y_aload_n 72 Y dX6_reduce_72 rfl ?_
              refine y_getf 73 Y 40 dX6_reduce_73 rfl rfl (fun q => ?_)
              replace h := h q
              refine y_iald 76 Y dX6_reduce_76 rfl rfl o4 o5 (fun _ => ?_)
              refine y_iload_n 77 Y dX6_reduce_77 rfl ?_
              refine y_if 78 85 Y dX6_reduce_78 rfl rfl (fun c => absurd c (show ¬ ((1 : Int) = 0) by decide)) (fun _ => ?_)
              refine y_iconst 81 Y dX6_reduce_81 rfl ?_
              refine y_goto 82 86 Y dX6_reduce_82 rfl rfl ?_
              refine y_iload_n 86 Y dX6_reduce_86 rfl ?_
              refine y_if 87 94 Y dX6_reduce_87 rfl rfl (fun c => absurd c (show ¬ ((1 : Int) = 0) by decide)) (fun _ => ?_)
              refine y_iconst 90 Y dX6_reduce_90 rfl ?_
              refine y_goto 91 95 Y dX6_reduce_91 rfl rfl ?_
              refine y_call 95 Y (as := [mi 3, mi (T 38 ((mup T 40 0 ((T 40 0) - 1)) 40 0)), mi 0, mi 1]) [] dX6_reduce_95 rfl rfl rfl rfl rfl h (fun r S7 hq hI _ => ?_)
              obtain ⟨rfl, h⟩ := Qv_ok hq
              replace h := h hI
              clear hq
              refine y_goto 98 0 Y dX6_reduce_98 rfl rfl ?_
              obtain ⟨n1, hn, h⟩ := h
              exact Wk 0 _ [some mt, some (mi l1), none] _ _ ⟨rfl, ⟨rfl, trivial⟩⟩ (hIc n1 _ _ _ _ hn ((⟨rfl, _, rfl, rfl, h⟩)))
set_option maxHeartbeats 4000000 in
theorem of_shelve {g : mG} {S : mS} {a1 a2 : Int} {Qp : Option mV → mS → Prop}
    (hE : mI S → (-2147483648 ≤ a1 ∧ a1 ≤ 2147483647) → (-2147483648 ≤ a2 ∧ a2 ≤ 2147483647) → CX_shelf g [mi (S 10 0)] S (Qi fun v2 S1 => mI S1 → (-2147483648 ≤ v2 ∧ v2 ≤ 2147483647) → CX_copyNodes g [mt, mi v2, mi a1, mi a2] S1 (Qv fun S3 => mI S3 → (0 ≤ (S3 10 0)) ∧ ((S3 10 0) < 30) ∧ CX_shelf g [mi (S3 10 0)] (mup S3 9 (S3 10 0) a2) (Qi fun v7 S6 => mI S6 → (-2147483648 ≤ v7 ∧ v7 ≤ 2147483647) → CX_span g [mt, mi v7, mi a2] S6 (Qv fun S8 => mI S8 → (-2147483648 ≤ (((S8 10 0) + 1) : Int) ∧ ((S8 10 0) + 1) ≤ 2147483647) ∧ CX_note g [mt, mi 0, mi 0, mi 0, mi 0, mi 0] (mup S8 10 0 ((S8 10 0) + 1)) (Qi fun v11 S10 => mI S10 → (-2147483648 ≤ v11 ∧ v11 ≤ 2147483647) → (-2147483648 ≤ (((S10 10 0) - 1) : Int) ∧ ((S10 10 0) - 1) ≤ 2147483647) ∧ Qp (some (mi ((S10 10 0) - 1))) S10))))))
    : CX_shelve g [mt, mi a1, mi a2] S Qp := by
  refine cm_y ⟨by decide, rfl⟩ (by simp [mcat]) (by simp) (fun _ _ _ _ _ => False) ?_ ?_
  · intro ha hS P Y Wk hIc
    have h := hE hS (mokI (ha (mi a1) (by simp))) (mokI (ha (mi a2) (by simp)))
    clear hE ha
    refine y_aload_n 0 Y dX6_shelve_0 rfl ?_
    refine y_aload_n 1 Y dX6_shelve_1 rfl ?_
    refine y_getf 2 Y 10 dX6_shelve_2 rfl rfl (fun _ => ?_)
    refine y_calls 5 Y (as := [mi (S 10 0)]) [mt] dX6_shelve_5 rfl rfl rfl rfl rfl h (fun r S1 hq hI hr => ?_)
    obtain ⟨v2, rfl, h⟩ := Qi_ok hq
    replace h := h hI (mokI (hr _ rfl))
    clear hq hr
    refine y_iload_n 8 Y dX6_shelve_8 rfl ?_
    refine y_iload_n 9 Y dX6_shelve_9 rfl ?_
    refine y_call 10 Y (as := [mi v2, mi a1, mi a2]) [] dX6_shelve_10 rfl rfl rfl rfl rfl h (fun r S3 hq hI _ => ?_)
    obtain ⟨rfl, h⟩ := Qv_ok hq
    replace h := h hI
    clear hq
    refine y_aload_n 13 Y dX6_shelve_13 rfl ?_
    refine y_geta 14 Y 9 dX6_shelve_14 rfl rfl ?_
    refine y_aload_n 17 Y dX6_shelve_17 rfl ?_
    refine y_getf 18 Y 10 dX6_shelve_18 rfl rfl (fun _ => ?_)
    refine y_iload_n 21 Y dX6_shelve_21 rfl ?_
    obtain ⟨o4, h⟩ := h
    obtain ⟨o5, h⟩ := h
    refine y_iast 22 Y dX6_shelve_22 rfl rfl o4 o5 ?_
    refine y_aload_n 23 Y dX6_shelve_23 rfl ?_
    refine y_aload_n 24 Y dX6_shelve_24 rfl ?_
    refine y_getf 25 Y 10 dX6_shelve_25 rfl rfl (fun _ => ?_)
    refine y_calls 28 Y (as := [mi (S3 10 0)]) [mt] dX6_shelve_28 rfl rfl rfl rfl rfl h (fun r S6 hq hI hr => ?_)
    obtain ⟨v7, rfl, h⟩ := Qi_ok hq
    replace h := h hI (mokI (hr _ rfl))
    clear hq hr
    refine y_iload_n 31 Y dX6_shelve_31 rfl ?_
    refine y_call 32 Y (as := [mi v7, mi a2]) [] dX6_shelve_32 rfl rfl rfl rfl rfl h (fun r S8 hq hI _ => ?_)
    obtain ⟨rfl, h⟩ := Qv_ok hq
    replace h := h hI
    clear hq
    refine y_aload_n 35 Y dX6_shelve_35 rfl ?_
    refine y_dup 36 Y dX6_shelve_36 rfl ?_
    refine y_getf 37 Y 10 dX6_shelve_37 rfl rfl (fun _ => ?_)
    refine y_iconst 40 Y dX6_shelve_40 rfl ?_
    obtain ⟨o9, h⟩ := h
    refine y_iadd 41 Y dX6_shelve_41 o9 ?_
    refine y_putf 42 Y 10 dX6_shelve_42 rfl rfl (fun q => absurd q (by decide)) ?_
    refine y_aload_n 45 Y dX6_shelve_45 rfl ?_
    refine y_iconst 46 Y dX6_shelve_46 rfl ?_
    refine y_iconst 47 Y dX6_shelve_47 rfl ?_
    refine y_iconst 48 Y dX6_shelve_48 rfl ?_
    refine y_iconst 49 Y dX6_shelve_49 rfl ?_
    refine y_iconst 50 Y dX6_shelve_50 rfl ?_
    refine y_call 51 Y (as := [mi 0, mi 0, mi 0, mi 0, mi 0]) [] dX6_shelve_51 rfl rfl rfl rfl rfl h (fun r S10 hq hI hr => ?_)
    obtain ⟨v11, rfl, h⟩ := Qi_ok hq
    replace h := h hI (mokI (hr _ rfl))
    clear hq hr
    refine y_pop 54 Y dX6_shelve_54 rfl ?_
    refine y_aload_n 55 Y dX6_shelve_55 rfl ?_
    refine y_getf 56 Y 10 dX6_shelve_56 rfl rfl (fun _ => ?_)
    refine y_iconst 59 Y dX6_shelve_59 rfl ?_
    obtain ⟨o12, h⟩ := h
    refine y_isub 60 Y dX6_shelve_60 o12 ?_
    exact y_iret 61 Y dX6_shelve_61 rfl h
  · intro n pc L st T hi
    exact hi.elim
set_option maxHeartbeats 4000000 in
theorem of_signBetween {g : mG} {S : mS} {a1 : Int} {Qp : Option mV → mS → Prop} (I5 : Nat → Int → Int → Int → mS → Prop)
    (hE : mI S → (-2147483648 ≤ a1 ∧ a1 ≤ 2147483647) → (∃ n1, I5 n1 a1 (-1) 126 S))
    (h5 : ∀ (n : Nat) (l1 l2 l3 : Int) (T : mS), mI T → (-2147483648 ≤ l1 ∧ l1 ≤ 2147483647) → (-2147483648 ≤ l2 ∧ l2 ≤ 2147483647) → (-2147483648 ≤ l3 ∧ l3 ≤ 2147483647) → I5 n l1 l2 l3 T → ((l3 ≤ 32) → Qp (some (mi l2)) T) ∧ (¬ (l3 ≤ 32) → CX_signOf g [mi l3] T (Qi fun v2 S1 => mI S1 → (-2147483648 ≤ v2 ∧ v2 ≤ 2147483647) → ((v2 = (-1)) → (-2147483648 ≤ ((l3 + (-1)) : Int) ∧ (l3 + (-1)) ≤ 2147483647) ∧ (∃ n1, n1 < n ∧ I5 n1 l1 l2 (l3 + (-1)) S1)) ∧ (¬ (v2 = (-1)) → (-2147483648 ≤ ((3 * v2) : Int) ∧ (3 * v2) ≤ 2147483647) ∧ (-2147483648 ≤ (((3 * v2) + 2) : Int) ∧ ((3 * v2) + 2) ≤ 2147483647) ∧ (0 ≤ ((3 * v2) + 2)) ∧ (((3 * v2) + 2) < 48) ∧ (((S1 15 ((3 * v2) + 2)) ≤ 0) → (-2147483648 ≤ ((l3 + (-1)) : Int) ∧ (l3 + (-1)) ≤ 2147483647) ∧ (∃ n1, n1 < n ∧ I5 n1 l1 l2 (l3 + (-1)) S1)) ∧ (¬ ((S1 15 ((3 * v2) + 2)) ≤ 0) → (((S1 17 ((3 * v2) + 2)) ≠ l1) → (-2147483648 ≤ ((l3 + (-1)) : Int) ∧ (l3 + (-1)) ≤ 2147483647) ∧ (∃ n1, n1 < n ∧ I5 n1 l1 l2 (l3 + (-1)) S1)) ∧ (¬ ((S1 17 ((3 * v2) + 2)) ≠ l1) → (-2147483648 ≤ ((l3 + (-1)) : Int) ∧ (l3 + (-1)) ≤ 2147483647) ∧ (∃ n1, n1 < n ∧ I5 n1 l1 l3 (l3 + (-1)) S1)))))))
    : CX_signBetween g [mt, mi a1] S Qp := by
  refine cm_y ⟨by decide, rfl⟩ (by simp [mcat]) (by simp) (fun n pc L st S => (pc = 5 ∧ ∃ (l1 : Int) (l2 : Int) (l3 : Int), L = [some mt, some (mi l1), some (mi l2), some (mi l3), none] ∧ st = [] ∧ I5 n l1 l2 l3 S)) ?_ ?_
  · intro ha hS P Y Wk hIc
    have h := hE hS (mokI (ha (mi a1) (by simp)))
    clear hE ha h5
    refine y_iconst 0 Y dX6_signBetween_0 rfl ?_
    refine y_istore_n 1 Y [some mt, some (mi a1), some (mi (-1)), none, none] dX6_signBetween_1 rfl rfl ?_
    refine y_bipush 2 Y dX6_signBetween_2 rfl ?_
    refine y_istore_n 4 Y [some mt, some (mi a1), some (mi (-1)), some (mi 126), none] dX6_signBetween_4 rfl rfl ?_
    obtain ⟨n1, h⟩ := h
    exact Wk 5 _ [some mt, some (mi a1), some (mi (-1)), some (mi 126), none] _ _ ⟨rfl, ⟨rfl, ⟨rfl, ⟨rfl, trivial⟩⟩⟩⟩ (hIc n1 _ _ _ _ ((⟨rfl, _, _, _, rfl, rfl, h⟩)))
  · intro n pc L st T hi hS hL P Y Wk hIc
    clear hE
    rcases hi with ⟨rfl, l1, l2, l3, rfl, rfl, hi⟩
    · have h := h5 n l1 l2 l3 T hS (hL 1 _ rfl) (hL 2 _ rfl) (hL 3 _ rfl) hi
      clear hL hi h5
      refine y_iload_n 5 Y dX6_signBetween_5 rfl ?_
      refine y_bipush 6 Y dX6_signBetween_6 rfl ?_
      refine y_icmp 8 64 Y dX6_signBetween_8 rfl rfl (fun c => ?_) (fun c => ?_)
      · replace h := h.1 c
        refine y_iload_n 64 Y dX6_signBetween_64 rfl ?_
        exact y_iret 65 Y dX6_signBetween_65 rfl h
      · replace h := h.2 c
        refine y_iload_n 11 Y dX6_signBetween_11 rfl ?_
        refine y_calls 12 Y (as := [mi l3]) [] dX6_signBetween_12 rfl rfl rfl rfl rfl h (fun r S1 hq hI hr => ?_)
        obtain ⟨v2, rfl, h⟩ := Qi_ok hq
        replace h := h hI (mokI (hr _ rfl))
        clear hq hr
        refine y_istore 15 Y [some mt, some (mi l1), some (mi l2), some (mi l3), some (mi v2)] dX6_signBetween_15 rfl rfl ?_
        refine y_iload 17 Y dX6_signBetween_17 rfl ?_
        refine y_iconst 19 Y dX6_signBetween_19 rfl ?_
        refine y_icmp 20 56 Y dX6_signBetween_20 rfl rfl (fun c => ?_) (fun c => ?_)
        · replace h := h.1 c
          refine y_iload_n 56 Y dX6_signBetween_56 rfl ?_
          refine y_istore_n 57 Y [some mt, some (mi l1), some (mi l2), some (mi l3), some (mi v2)] dX6_signBetween_57 rfl rfl ?_
          obtain ⟨o3, h⟩ := h
          refine y_iinc 58 Y [some mt, some (mi l1), some (mi l2), some (mi (l3 + (-1))), some (mi v2)] dX6_signBetween_58 rfl rfl o3 ?_
          refine y_goto 61 5 Y dX6_signBetween_61 rfl rfl ?_
          obtain ⟨n1, hn, h⟩ := h
          exact Wk 5 _ [some mt, some (mi l1), some (mi l2), some (mi (l3 + (-1))), none] _ _ ⟨rfl, ⟨rfl, ⟨rfl, ⟨rfl, trivial⟩⟩⟩⟩ (hIc n1 _ _ _ _ hn ((⟨rfl, _, _, _, rfl, rfl, h⟩)))
        · replace h := h.2 c
          refine y_aload_n 23 Y dX6_signBetween_23 rfl ?_
          refine y_geta 24 Y 15 dX6_signBetween_24 rfl rfl ?_
          refine y_iconst 27 Y dX6_signBetween_27 rfl ?_
          refine y_iload 28 Y dX6_signBetween_28 rfl ?_
          obtain ⟨o4, h⟩ := h
          refine y_imul 30 Y dX6_signBetween_30 o4 ?_
          refine y_iconst 31 Y dX6_signBetween_31 rfl ?_
          obtain ⟨o5, h⟩ := h
          refine y_iadd 32 Y dX6_signBetween_32 o5 ?_
          obtain ⟨o6, h⟩ := h
          obtain ⟨o7, h⟩ := h
          refine y_iald 33 Y dX6_signBetween_33 rfl rfl o6 o7 (fun _ => ?_)
          refine y_if 34 56 Y dX6_signBetween_34 rfl rfl (fun c => ?_) (fun c => ?_)
          · replace h := h.1 c
            refine y_iload_n 56 Y dX6_signBetween_56 rfl ?_
            refine y_istore_n 57 Y [some mt, some (mi l1), some (mi l2), some (mi l3), some (mi v2)] dX6_signBetween_57 rfl rfl ?_
            obtain ⟨o8, h⟩ := h
            refine y_iinc 58 Y [some mt, some (mi l1), some (mi l2), some (mi (l3 + (-1))), some (mi v2)] dX6_signBetween_58 rfl rfl o8 ?_
            refine y_goto 61 5 Y dX6_signBetween_61 rfl rfl ?_
            obtain ⟨n1, hn, h⟩ := h
            exact Wk 5 _ [some mt, some (mi l1), some (mi l2), some (mi (l3 + (-1))), none] _ _ ⟨rfl, ⟨rfl, ⟨rfl, ⟨rfl, trivial⟩⟩⟩⟩ (hIc n1 _ _ _ _ hn ((⟨rfl, _, _, _, rfl, rfl, h⟩)))
          · replace h := h.2 c
            refine y_aload_n 37 Y dX6_signBetween_37 rfl ?_
            refine y_geta 38 Y 17 dX6_signBetween_38 rfl rfl ?_
            refine y_iconst 41 Y dX6_signBetween_41 rfl ?_
            refine y_iload 42 Y dX6_signBetween_42 rfl ?_
            refine y_imul 44 Y dX6_signBetween_44 o4 ?_
            refine y_iconst 45 Y dX6_signBetween_45 rfl ?_
            refine y_iadd 46 Y dX6_signBetween_46 o5 ?_
            refine y_iald 47 Y dX6_signBetween_47 rfl rfl o6 o7 (fun _ => ?_)
            refine y_iload_n 48 Y dX6_signBetween_48 rfl ?_
            refine y_icmp 49 56 Y dX6_signBetween_49 rfl rfl (fun c => ?_) (fun c => ?_)
            · replace h := h.1 c
              refine y_iload_n 56 Y dX6_signBetween_56 rfl ?_
              refine y_istore_n 57 Y [some mt, some (mi l1), some (mi l2), some (mi l3), some (mi v2)] dX6_signBetween_57 rfl rfl ?_
              obtain ⟨o9, h⟩ := h
              refine y_iinc 58 Y [some mt, some (mi l1), some (mi l2), some (mi (l3 + (-1))), some (mi v2)] dX6_signBetween_58 rfl rfl o9 ?_
              refine y_goto 61 5 Y dX6_signBetween_61 rfl rfl ?_
              obtain ⟨n1, hn, h⟩ := h
              exact Wk 5 _ [some mt, some (mi l1), some (mi l2), some (mi (l3 + (-1))), none] _ _ ⟨rfl, ⟨rfl, ⟨rfl, ⟨rfl, trivial⟩⟩⟩⟩ (hIc n1 _ _ _ _ hn ((⟨rfl, _, _, _, rfl, rfl, h⟩)))
            · replace h := h.2 c
              refine y_iload_n 52 Y dX6_signBetween_52 rfl ?_
              refine y_goto 53 57 Y dX6_signBetween_53 rfl rfl ?_
              refine y_istore_n 57 Y [some mt, some (mi l1), some (mi l3), some (mi l3), some (mi v2)] dX6_signBetween_57 rfl rfl ?_
              obtain ⟨o10, h⟩ := h
              refine y_iinc 58 Y [some mt, some (mi l1), some (mi l3), some (mi (l3 + (-1))), some (mi v2)] dX6_signBetween_58 rfl rfl o10 ?_
              refine y_goto 61 5 Y dX6_signBetween_61 rfl rfl ?_
              obtain ⟨n1, hn, h⟩ := h
              exact Wk 5 _ [some mt, some (mi l1), some (mi l3), some (mi (l3 + (-1))), none] _ _ ⟨rfl, ⟨rfl, ⟨rfl, ⟨rfl, trivial⟩⟩⟩⟩ (hIc n1 _ _ _ _ hn ((⟨rfl, _, _, _, rfl, rfl, h⟩)))
set_option maxHeartbeats 4000000 in
theorem of_takeWork {g : mG} {S : mS} {a1 : Int} {Qp : Option mV → mS → Prop}
    (hE : mI S → (-2147483648 ≤ a1 ∧ a1 ≤ 2147483647) → (0 ≤ a1) ∧ (a1 < 20300) ∧ (-2147483648 ≤ ((mup S 64 0 (S 8 a1)) 64 0) ∧ ((mup S 64 0 (S 8 a1)) 64 0) ≤ 2147483647 → CX_copyNodes g [mt, mi 13540, mi a1, mi ((mup S 64 0 (S 8 a1)) 64 0)] (mup S 64 0 (S 8 a1)) (Qv fun S3 => mI S3 → Qp none S3)))
    : CX_takeWork g [mt, mi a1] S Qp := by
  refine cm_y ⟨by decide, rfl⟩ (by simp [mcat]) (by simp) (fun _ _ _ _ _ => False) ?_ ?_
  · intro ha hS P Y Wk hIc
    have h := hE hS (mokI (ha (mi a1) (by simp)))
    clear hE ha
    refine y_aload_n 0 Y dX6_takeWork_0 rfl ?_
    refine y_aload_n 1 Y dX6_takeWork_1 rfl ?_
    refine y_geta 2 Y 8 dX6_takeWork_2 rfl rfl ?_
    refine y_iload_n 5 Y dX6_takeWork_5 rfl ?_
    obtain ⟨o1, h⟩ := h
    obtain ⟨o2, h⟩ := h
    refine y_iald 6 Y dX6_takeWork_6 rfl rfl o1 o2 (fun _ => ?_)
    refine y_putf 7 Y 64 dX6_takeWork_7 rfl rfl (fun q => absurd q (by decide)) ?_
    refine y_aload_n 10 Y dX6_takeWork_10 rfl ?_
    refine y_sipush 11 Y dX6_takeWork_11 rfl ?_
    refine y_iload_n 14 Y dX6_takeWork_14 rfl ?_
    refine y_aload_n 15 Y dX6_takeWork_15 rfl ?_
    refine y_getf 16 Y 64 dX6_takeWork_16 rfl rfl (fun q => ?_)
    replace h := h q
    refine y_call 19 Y (as := [mi 13540, mi a1, mi ((mup S 64 0 (S 8 a1)) 64 0)]) [] dX6_takeWork_19 rfl rfl rfl rfl rfl h (fun r S3 hq hI _ => ?_)
    obtain ⟨rfl, h⟩ := Qv_ok hq
    replace h := h hI
    clear hq
    exact y_ret 22 Y dX6_takeWork_22 rfl h
  · intro n pc L st T hi
    exact hi.elim
set_option maxHeartbeats 4000000 in
theorem of_tellFirst {g : mG} {S : mS} {a1 a2 a3 a4 a5 : Int} {Qp : Option mV → mS → Prop}
    (hE : mI S → (-2147483648 ≤ a1 ∧ a1 ≤ 2147483647) → (-2147483648 ≤ a2 ∧ a2 ≤ 2147483647) → (-2147483648 ≤ a3 ∧ a3 ≤ 2147483647) → (-2147483648 ≤ a4 ∧ a4 ≤ 2147483647) → (-2147483648 ≤ a5 ∧ a5 ≤ 2147483647) → CX_signOf g [mi a1] S (Qi fun v2 S1 => mI S1 → (-2147483648 ≤ v2 ∧ v2 ≤ 2147483647) → (-2147483648 ≤ ((3 * v2) : Int) ∧ (3 * v2) ≤ 2147483647) ∧ (-2147483648 ≤ (((3 * v2) + a2) : Int) ∧ ((3 * v2) + a2) ≤ 2147483647) ∧ (0 ≤ ((3 * v2) + a2)) ∧ (((3 * v2) + a2) < 48) ∧ CX_signOf g [mi a1] (mup S1 15 ((3 * v2) + a2) a3) (Qi fun v8 S7 => mI S7 → (-2147483648 ≤ v8 ∧ v8 ≤ 2147483647) → (-2147483648 ≤ ((3 * v8) : Int) ∧ (3 * v8) ≤ 2147483647) ∧ (-2147483648 ≤ (((3 * v8) + a2) : Int) ∧ ((3 * v8) + a2) ≤ 2147483647) ∧ (0 ≤ ((3 * v8) + a2)) ∧ (((3 * v8) + a2) < 48) ∧ CX_signOf g [mi a1] (mup S7 16 ((3 * v8) + a2) a4) (Qi fun v14 S13 => mI S13 → (-2147483648 ≤ v14 ∧ v14 ≤ 2147483647) → (-2147483648 ≤ ((3 * v14) : Int) ∧ (3 * v14) ≤ 2147483647) ∧ (-2147483648 ≤ (((3 * v14) + a2) : Int) ∧ ((3 * v14) + a2) ≤ 2147483647) ∧ (0 ≤ ((3 * v14) + a2)) ∧ (((3 * v14) + a2) < 48) ∧ Qp none (mup S13 17 ((3 * v14) + a2) a5)))))
    : CX_tellFirst g [mt, mi a1, mi a2, mi a3, mi a4, mi a5] S Qp := by
  refine cm_y ⟨by decide, rfl⟩ (by simp [mcat]) (by simp) (fun _ _ _ _ _ => False) ?_ ?_
  · intro ha hS P Y Wk hIc
    have h := hE hS (mokI (ha (mi a1) (by simp))) (mokI (ha (mi a2) (by simp))) (mokI (ha (mi a3) (by simp))) (mokI (ha (mi a4) (by simp))) (mokI (ha (mi a5) (by simp)))
    clear hE ha
    refine y_aload_n 0 Y dX6_tellFirst_0 rfl ?_
    refine y_geta 1 Y 15 dX6_tellFirst_1 rfl rfl ?_
    refine y_iconst 4 Y dX6_tellFirst_4 rfl ?_
    refine y_iload_n 5 Y dX6_tellFirst_5 rfl ?_
    refine y_calls 6 Y (as := [mi a1]) [mi 3, mr 15] dX6_tellFirst_6 rfl rfl rfl rfl rfl h (fun r S1 hq hI hr => ?_)
    obtain ⟨v2, rfl, h⟩ := Qi_ok hq
    replace h := h hI (mokI (hr _ rfl))
    clear hq hr
    obtain ⟨o3, h⟩ := h
    refine y_imul 9 Y dX6_tellFirst_9 o3 ?_
    refine y_iload_n 10 Y dX6_tellFirst_10 rfl ?_
    obtain ⟨o4, h⟩ := h
    refine y_iadd 11 Y dX6_tellFirst_11 o4 ?_
    refine y_iload_n 12 Y dX6_tellFirst_12 rfl ?_
    obtain ⟨o5, h⟩ := h
    obtain ⟨o6, h⟩ := h
    refine y_iast 13 Y dX6_tellFirst_13 rfl rfl o5 o6 ?_
    refine y_aload_n 14 Y dX6_tellFirst_14 rfl ?_
    refine y_geta 15 Y 16 dX6_tellFirst_15 rfl rfl ?_
    refine y_iconst 18 Y dX6_tellFirst_18 rfl ?_
    refine y_iload_n 19 Y dX6_tellFirst_19 rfl ?_
    refine y_calls 20 Y (as := [mi a1]) [mi 3, mr 16] dX6_tellFirst_20 rfl rfl rfl rfl rfl h (fun r S7 hq hI hr => ?_)
    obtain ⟨v8, rfl, h⟩ := Qi_ok hq
    replace h := h hI (mokI (hr _ rfl))
    clear hq hr
    obtain ⟨o9, h⟩ := h
    refine y_imul 23 Y dX6_tellFirst_23 o9 ?_
    refine y_iload_n 24 Y dX6_tellFirst_24 rfl ?_
    obtain ⟨o10, h⟩ := h
    refine y_iadd 25 Y dX6_tellFirst_25 o10 ?_
    refine y_iload 26 Y dX6_tellFirst_26 rfl ?_
    obtain ⟨o11, h⟩ := h
    obtain ⟨o12, h⟩ := h
    refine y_iast 28 Y dX6_tellFirst_28 rfl rfl o11 o12 ?_
    refine y_aload_n 29 Y dX6_tellFirst_29 rfl ?_
    refine y_geta 30 Y 17 dX6_tellFirst_30 rfl rfl ?_
    refine y_iconst 33 Y dX6_tellFirst_33 rfl ?_
    refine y_iload_n 34 Y dX6_tellFirst_34 rfl ?_
    refine y_calls 35 Y (as := [mi a1]) [mi 3, mr 17] dX6_tellFirst_35 rfl rfl rfl rfl rfl h (fun r S13 hq hI hr => ?_)
    obtain ⟨v14, rfl, h⟩ := Qi_ok hq
    replace h := h hI (mokI (hr _ rfl))
    clear hq hr
    obtain ⟨o15, h⟩ := h
    refine y_imul 38 Y dX6_tellFirst_38 o15 ?_
    refine y_iload_n 39 Y dX6_tellFirst_39 rfl ?_
    obtain ⟨o16, h⟩ := h
    refine y_iadd 40 Y dX6_tellFirst_40 o16 ?_
    refine y_iload 41 Y dX6_tellFirst_41 rfl ?_
    obtain ⟨o17, h⟩ := h
    obtain ⟨o18, h⟩ := h
    refine y_iast 43 Y dX6_tellFirst_43 rfl rfl o17 o18 ?_
    exact y_ret 44 Y dX6_tellFirst_44 rfl h
  · intro n pc L st T hi
    exact hi.elim
set_option maxHeartbeats 4000000 in
theorem of_times {g : mG} {S : mS} {a1 a2 a3 : Int} {Qp : Option mV → mS → Prop} (I18 : Nat → Int → Int → Int → Int → Int → mS → Prop) (I48 : Nat → Int → Int → Int → Int → Int → mS → Prop) (I81 : Nat → Int → Int → Int → Int → Int → Int → Int → Int → mS → Prop)
    (hE : mI S → (-2147483648 ≤ a1 ∧ a1 ≤ 2147483647) → (-2147483648 ≤ a2 ∧ a2 ≤ 2147483647) → (-2147483648 ≤ a3 ∧ a3 ≤ 2147483647) → (0 ≤ a2) ∧ (a2 < 16) ∧ (0 ≤ a3) ∧ (a3 < 16) ∧ (-2147483648 ≤ (((S 2 a2) + (S 2 a3)) : Int) ∧ ((S 2 a2) + (S 2 a3)) ≤ 2147483647) ∧ (∃ n1, I18 n1 a1 a2 a3 ((S 2 a2) + (S 2 a3)) 0 S))
    (h18 : ∀ (n : Nat) (l1 l2 l3 l4 l5 : Int) (T : mS), mI T → (-2147483648 ≤ l1 ∧ l1 ≤ 2147483647) → (-2147483648 ≤ l2 ∧ l2 ≤ 2147483647) → (-2147483648 ≤ l3 ∧ l3 ≤ 2147483647) → (-2147483648 ≤ l4 ∧ l4 ≤ 2147483647) → (-2147483648 ≤ l5 ∧ l5 ≤ 2147483647) → I18 n l1 l2 l3 l4 l5 T → ((l4 ≤ l5) → (∃ n1, n1 < n ∧ I48 n1 l1 l2 l3 l4 0 T)) ∧ (¬ (l4 ≤ l5) → (-2147483648 ≤ ((440 * l1) : Int) ∧ (440 * l1) ≤ 2147483647) ∧ (-2147483648 ≤ (((440 * l1) + l5) : Int) ∧ ((440 * l1) + l5) ≤ 2147483647) ∧ (0 ≤ ((440 * l1) + l5)) ∧ (((440 * l1) + l5) < 7040) ∧ (-2147483648 ≤ ((l5 + 1) : Int) ∧ (l5 + 1) ≤ 2147483647) ∧ (∃ n1, n1 < n ∧ I18 n1 l1 l2 l3 l4 (l5 + 1) (mup T 1 ((440 * l1) + l5) 0))))
    (h48 : ∀ (n : Nat) (l1 l2 l3 l4 l5 : Int) (T : mS), mI T → (-2147483648 ≤ l1 ∧ l1 ≤ 2147483647) → (-2147483648 ≤ l2 ∧ l2 ≤ 2147483647) → (-2147483648 ≤ l3 ∧ l3 ≤ 2147483647) → (-2147483648 ≤ l4 ∧ l4 ≤ 2147483647) → (-2147483648 ≤ l5 ∧ l5 ≤ 2147483647) → I48 n l1 l2 l3 l4 l5 T → (0 ≤ l2) ∧ (l2 < 16) ∧ (((T 2 l2) ≤ l5) → (0 ≤ l1) ∧ (l1 < 16) ∧ CX_trim g [mt, mi l1] (mup T 2 l1 l4) (Qv fun S5 => mI S5 → Qp none S5)) ∧ (¬ ((T 2 l2) ≤ l5) → (-2147483648 ≤ ((440 * l2) : Int) ∧ (440 * l2) ≤ 2147483647) ∧ (-2147483648 ≤ (((440 * l2) + l5) : Int) ∧ ((440 * l2) + l5) ≤ 2147483647) ∧ (0 ≤ ((440 * l2) + l5)) ∧ (((440 * l2) + l5) < 7040) ∧ (∃ n1, n1 < n ∧ I81 n1 l1 l2 l3 l4 l5 0 (T 1 ((440 * l2) + l5)) 0 T)))
    (h81 : ∀ (n : Nat) (l1 l2 l3 l4 l5 l6 l8 l10 : Int) (T : mS), mI T → (-2147483648 ≤ l1 ∧ l1 ≤ 2147483647) → (-2147483648 ≤ l2 ∧ l2 ≤ 2147483647) → (-2147483648 ≤ l3 ∧ l3 ≤ 2147483647) → (-2147483648 ≤ l4 ∧ l4 ≤ 2147483647) → (-2147483648 ≤ l5 ∧ l5 ≤ 2147483647) → (-9223372036854775808 ≤ l6 ∧ l6 ≤ 9223372036854775807) → (-9223372036854775808 ≤ l8 ∧ l8 ≤ 9223372036854775807) → (-2147483648 ≤ l10 ∧ l10 ≤ 2147483647) → I81 n l1 l2 l3 l4 l5 l6 l8 l10 T → (0 ≤ l3) ∧ (l3 < 16) ∧ (((T 2 l3) ≤ l10) → (-2147483648 ≤ ((440 * l1) : Int) ∧ (440 * l1) ≤ 2147483647) ∧ (-2147483648 ≤ (((440 * l1) + l5) : Int) ∧ ((440 * l1) + l5) ≤ 2147483647) ∧ (-2147483648 ≤ ((((440 * l1) + l5) + (T 2 l3)) : Int) ∧ (((440 * l1) + l5) + (T 2 l3)) ≤ 2147483647) ∧ (-2147483648 ≤ (l6 : Int) ∧ l6 ≤ 2147483647) ∧ (0 ≤ (((440 * l1) + l5) + (T 2 l3))) ∧ ((((440 * l1) + l5) + (T 2 l3)) < 7040) ∧ (-2147483648 ≤ ((l5 + 1) : Int) ∧ (l5 + 1) ≤ 2147483647) ∧ (∃ n1, n1 < n ∧ I48 n1 l1 l2 l3 l4 (l5 + 1) (mup T 1 (((440 * l1) + l5) + (T 2 l3)) l6))) ∧ (¬ ((T 2 l3) ≤ l10) → (-2147483648 ≤ ((440 * l1) : Int) ∧ (440 * l1) ≤ 2147483647) ∧ (-2147483648 ≤ (((440 * l1) + l5) : Int) ∧ ((440 * l1) + l5) ≤ 2147483647) ∧ (-2147483648 ≤ ((((440 * l1) + l5) + l10) : Int) ∧ (((440 * l1) + l5) + l10) ≤ 2147483647) ∧ (0 ≤ (((440 * l1) + l5) + l10)) ∧ ((((440 * l1) + l5) + l10) < 7040) ∧ (-2147483648 ≤ ((440 * l3) : Int) ∧ (440 * l3) ≤ 2147483647) ∧ (-2147483648 ≤ (((440 * l3) + l10) : Int) ∧ ((440 * l3) + l10) ≤ 2147483647) ∧ (0 ≤ ((440 * l3) + l10)) ∧ (((440 * l3) + l10) < 7040) ∧ (-9223372036854775808 ≤ ((l8 * (T 1 ((440 * l3) + l10))) : Int) ∧ (l8 * (T 1 ((440 * l3) + l10))) ≤ 9223372036854775807) ∧ (-9223372036854775808 ≤ (((T 1 (((440 * l1) + l5) + l10)) + (l8 * (T 1 ((440 * l3) + l10)))) : Int) ∧ ((T 1 (((440 * l1) + l5) + l10)) + (l8 * (T 1 ((440 * l3) + l10)))) ≤ 9223372036854775807) ∧ (-9223372036854775808 ≤ ((((T 1 (((440 * l1) + l5) + l10)) + (l8 * (T 1 ((440 * l3) + l10)))) + l6) : Int) ∧ (((T 1 (((440 * l1) + l5) + l10)) + (l8 * (T 1 ((440 * l3) + l10)))) + l6) ≤ 9223372036854775807) ∧ (-2147483648 ≤ (((((T 1 (((440 * l1) + l5) + l10)) + (l8 * (T 1 ((440 * l3) + l10)))) + l6) % 65536) : Int) ∧ ((((T 1 (((440 * l1) + l5) + l10)) + (l8 * (T 1 ((440 * l3) + l10)))) + l6) % 65536) ≤ 2147483647) ∧ (-2147483648 ≤ ((l10 + 1) : Int) ∧ (l10 + 1) ≤ 2147483647) ∧ (∃ n1, n1 < n ∧ I81 n1 l1 l2 l3 l4 l5 ((((T 1 (((440 * l1) + l5) + l10)) + (l8 * (T 1 ((440 * l3) + l10)))) + l6) / 65536) l8 (l10 + 1) (mup T 1 (((440 * l1) + l5) + l10) ((((T 1 (((440 * l1) + l5) + l10)) + (l8 * (T 1 ((440 * l3) + l10)))) + l6) % 65536)))))
    : CX_times g [mt, mi a1, mi a2, mi a3] S Qp := by
  refine cm_y ⟨by decide, rfl⟩ (by simp [mcat]) (by simp) (fun n pc L st S => (pc = 18 ∧ ∃ (l1 : Int) (l2 : Int) (l3 : Int) (l4 : Int) (l5 : Int), L = [some mt, some (mi l1), some (mi l2), some (mi l3), some (mi l4), some (mi l5), none, none, none, none, none, none, none] ∧ st = [] ∧ I18 n l1 l2 l3 l4 l5 S) ∨ (pc = 48 ∧ ∃ (l1 : Int) (l2 : Int) (l3 : Int) (l4 : Int) (l5 : Int), L = [some mt, some (mi l1), some (mi l2), some (mi l3), some (mi l4), some (mi l5), none, none, none, none, none, none, none] ∧ st = [] ∧ I48 n l1 l2 l3 l4 l5 S) ∨ (pc = 81 ∧ ∃ (l1 : Int) (l2 : Int) (l3 : Int) (l4 : Int) (l5 : Int) (l6 : Int) (l8 : Int) (l10 : Int), L = [some mt, some (mi l1), some (mi l2), some (mi l3), some (mi l4), some (mi l5), some (ml l6), none, some (ml l8), none, some (mi l10), none, none] ∧ st = [] ∧ I81 n l1 l2 l3 l4 l5 l6 l8 l10 S)) ?_ ?_
  · intro ha hS P Y Wk hIc
    have h := hE hS (mokI (ha (mi a1) (by simp))) (mokI (ha (mi a2) (by simp))) (mokI (ha (mi a3) (by simp)))
    clear hE ha h18 h48 h81
    refine y_aload_n 0 Y dX6_times_0 rfl ?_
    refine y_geta 1 Y 2 dX6_times_1 rfl rfl ?_
    refine y_iload_n 4 Y dX6_times_4 rfl ?_
    obtain ⟨o1, h⟩ := h
    obtain ⟨o2, h⟩ := h
    refine y_iald 5 Y dX6_times_5 rfl rfl o1 o2 (fun _ => ?_)
    refine y_aload_n 6 Y dX6_times_6 rfl ?_
    refine y_geta 7 Y 2 dX6_times_7 rfl rfl ?_
    refine y_iload_n 10 Y dX6_times_10 rfl ?_
    obtain ⟨o3, h⟩ := h
    obtain ⟨o4, h⟩ := h
    refine y_iald 11 Y dX6_times_11 rfl rfl o3 o4 (fun _ => ?_)
    obtain ⟨o5, h⟩ := h
    refine y_iadd 12 Y dX6_times_12 o5 ?_
    refine y_istore 13 Y [some mt, some (mi a1), some (mi a2), some (mi a3), some (mi ((S 2 a2) + (S 2 a3))), none, none, none, none, none, none, none, none] dX6_times_13 rfl rfl ?_
    refine y_iconst 15 Y dX6_times_15 rfl ?_
    refine y_istore 16 Y [some mt, some (mi a1), some (mi a2), some (mi a3), some (mi ((S 2 a2) + (S 2 a3))), some (mi 0), none, none, none, none, none, none, none] dX6_times_16 rfl rfl ?_
    obtain ⟨n1, h⟩ := h
    exact Wk 18 _ [some mt, some (mi a1), some (mi a2), some (mi a3), some (mi ((S 2 a2) + (S 2 a3))), some (mi 0), none, none, none, none, none, none, none] _ _ ⟨rfl, ⟨rfl, ⟨rfl, ⟨rfl, ⟨rfl, ⟨rfl, trivial⟩⟩⟩⟩⟩⟩ (hIc n1 _ _ _ _ (Or.inl (⟨rfl, _, _, _, _, _, rfl, rfl, h⟩)))
  · intro n pc L st T hi hS hL P Y Wk hIc
    clear hE
    rcases hi with ⟨rfl, l1, l2, l3, l4, l5, rfl, rfl, hi⟩ | ⟨rfl, l1, l2, l3, l4, l5, rfl, rfl, hi⟩ | ⟨rfl, l1, l2, l3, l4, l5, l6, l8, l10, rfl, rfl, hi⟩
    · have h := h18 n l1 l2 l3 l4 l5 T hS (hL 1 _ rfl) (hL 2 _ rfl) (hL 3 _ rfl) (hL 4 _ rfl) (hL 5 _ rfl) hi
      clear hL hi h18 h48 h81
      refine y_iload 18 Y dX6_times_18 rfl ?_
      refine y_iload 20 Y dX6_times_20 rfl ?_
      refine y_icmp 22 45 Y dX6_times_22 rfl rfl (fun c => ?_) (fun c => ?_)
      · replace h := h.1 c
        refine y_iconst 45 Y dX6_times_45 rfl ?_
        refine y_istore 46 Y [some mt, some (mi l1), some (mi l2), some (mi l3), some (mi l4), some (mi 0), none, none, none, none, none, none, none] dX6_times_46 rfl rfl ?_
        obtain ⟨n1, hn, h⟩ := h
        exact Wk 48 _ [some mt, some (mi l1), some (mi l2), some (mi l3), some (mi l4), some (mi 0), none, none, none, none, none, none, none] _ _ ⟨rfl, ⟨rfl, ⟨rfl, ⟨rfl, ⟨rfl, ⟨rfl, trivial⟩⟩⟩⟩⟩⟩ (hIc n1 _ _ _ _ hn (Or.inr (Or.inl (⟨rfl, _, _, _, _, _, rfl, rfl, h⟩))))
      · replace h := h.2 c
        refine y_aload_n 25 Y dX6_times_25 rfl ?_
        refine y_geta 26 Y 1 dX6_times_26 rfl rfl ?_
        refine y_sipush 29 Y dX6_times_29 rfl ?_
        refine y_iload_n 32 Y dX6_times_32 rfl ?_
        obtain ⟨o1, h⟩ := h
        refine y_imul 33 Y dX6_times_33 o1 ?_
        refine y_iload 34 Y dX6_times_34 rfl ?_
        obtain ⟨o2, h⟩ := h
        refine y_iadd 36 Y dX6_times_36 o2 ?_
        refine y_iconst 37 Y dX6_times_37 rfl ?_
        obtain ⟨o3, h⟩ := h
        obtain ⟨o4, h⟩ := h
        refine y_iast 38 Y dX6_times_38 rfl rfl o3 o4 ?_
        obtain ⟨o5, h⟩ := h
        refine y_iinc 39 Y [some mt, some (mi l1), some (mi l2), some (mi l3), some (mi l4), some (mi (l5 + 1)), none, none, none, none, none, none, none] dX6_times_39 rfl rfl o5 ?_
        refine y_goto 42 18 Y dX6_times_42 rfl rfl ?_
        obtain ⟨n1, hn, h⟩ := h
        exact Wk 18 _ [some mt, some (mi l1), some (mi l2), some (mi l3), some (mi l4), some (mi (l5 + 1)), none, none, none, none, none, none, none] _ _ ⟨rfl, ⟨rfl, ⟨rfl, ⟨rfl, ⟨rfl, ⟨rfl, trivial⟩⟩⟩⟩⟩⟩ (hIc n1 _ _ _ _ hn (Or.inl (⟨rfl, _, _, _, _, _, rfl, rfl, h⟩)))
    · have h := h48 n l1 l2 l3 l4 l5 T hS (hL 1 _ rfl) (hL 2 _ rfl) (hL 3 _ rfl) (hL 4 _ rfl) (hL 5 _ rfl) hi
      clear hL hi h18 h48 h81
      refine y_iload 48 Y dX6_times_48 rfl ?_
      refine y_aload_n 50 Y dX6_times_50 rfl ?_
      refine y_geta 51 Y 2 dX6_times_51 rfl rfl ?_
      refine y_iload_n 54 Y dX6_times_54 rfl ?_
      obtain ⟨o1, h⟩ := h
      obtain ⟨o2, h⟩ := h
      refine y_iald 55 Y dX6_times_55 rfl rfl o1 o2 (fun _ => ?_)
      refine y_icmp 56 197 Y dX6_times_56 rfl rfl (fun c => ?_) (fun c => ?_)
      · replace h := h.1 c
        refine y_aload_n 197 Y dX6_times_197 rfl ?_
        refine y_geta 198 Y 2 dX6_times_198 rfl rfl ?_
        refine y_iload_n 201 Y dX6_times_201 rfl ?_
        refine y_iload 202 Y dX6_times_202 rfl ?_
        obtain ⟨o3, h⟩ := h
        obtain ⟨o4, h⟩ := h
        refine y_iast 204 Y dX6_times_204 rfl rfl o3 o4 ?_
        refine y_aload_n 205 Y dX6_times_205 rfl ?_
        refine y_iload_n 206 Y dX6_times_206 rfl ?_
        refine y_call 207 Y (as := [mi l1]) [] dX6_times_207 rfl rfl rfl rfl rfl h (fun r S5 hq hI _ => ?_)
        obtain ⟨rfl, h⟩ := Qv_ok hq
        replace h := h hI
        clear hq
        exact y_ret 210 Y dX6_times_210 rfl h
      · replace h := h.2 c
        refine y_lconst 59 Y dX6_times_59 rfl ?_
        refine y_lstore 60 Y [some mt, some (mi l1), some (mi l2), some (mi l3), some (mi l4), some (mi l5), some (ml 0), none, none, none, none, none, none] dX6_times_60 rfl rfl ?_
        refine y_aload_n 62 Y dX6_times_62 rfl ?_
        refine y_geta 63 Y 1 dX6_times_63 rfl rfl ?_
        refine y_sipush 66 Y dX6_times_66 rfl ?_
        refine y_iload_n 69 Y dX6_times_69 rfl ?_
        obtain ⟨o6, h⟩ := h
        refine y_imul 70 Y dX6_times_70 o6 ?_
        refine y_iload 71 Y dX6_times_71 rfl ?_
        obtain ⟨o7, h⟩ := h
        refine y_iadd 73 Y dX6_times_73 o7 ?_
        obtain ⟨o8, h⟩ := h
        obtain ⟨o9, h⟩ := h
        refine y_iald 74 Y dX6_times_74 rfl rfl o8 o9 (fun _ => ?_)
        refine y_i2l 75 Y dX6_times_75 ?_
        refine y_lstore 76 Y [some mt, some (mi l1), some (mi l2), some (mi l3), some (mi l4), some (mi l5), some (ml 0), none, some (ml (T 1 ((440 * l2) + l5))), none, none, none, none] dX6_times_76 rfl rfl ?_
        refine y_iconst 78 Y dX6_times_78 rfl ?_
        refine y_istore 79 Y [some mt, some (mi l1), some (mi l2), some (mi l3), some (mi l4), some (mi l5), some (ml 0), none, some (ml (T 1 ((440 * l2) + l5))), none, some (mi 0), none, none] dX6_times_79 rfl rfl ?_
        obtain ⟨n1, hn, h⟩ := h
        exact Wk 81 _ [some mt, some (mi l1), some (mi l2), some (mi l3), some (mi l4), some (mi l5), some (ml 0), none, some (ml (T 1 ((440 * l2) + l5))), none, some (mi 0), none, none] _ _ ⟨rfl, ⟨rfl, ⟨rfl, ⟨rfl, ⟨rfl, ⟨rfl, ⟨rfl, ⟨rfl, ⟨rfl, trivial⟩⟩⟩⟩⟩⟩⟩⟩⟩ (hIc n1 _ _ _ _ hn (Or.inr (Or.inr ((⟨rfl, _, _, _, _, _, _, _, _, rfl, rfl, h⟩)))))
    · have h := h81 n l1 l2 l3 l4 l5 l6 l8 l10 T hS (hL 1 _ rfl) (hL 2 _ rfl) (hL 3 _ rfl) (hL 4 _ rfl) (hL 5 _ rfl) (hL 6 _ rfl) (hL 8 _ rfl) (hL 10 _ rfl) hi
      clear hL hi h18 h48 h81
      refine y_iload 81 Y dX6_times_81 rfl ?_
      refine y_aload_n 83 Y dX6_times_83 rfl ?_
      refine y_geta 84 Y 2 dX6_times_84 rfl rfl ?_
      refine y_iload_n 87 Y dX6_times_87 rfl ?_
      obtain ⟨o1, h⟩ := h
      obtain ⟨o2, h⟩ := h
      refine y_iald 88 Y dX6_times_88 rfl rfl o1 o2 (fun _ => ?_)
      refine y_icmp 89 168 Y dX6_times_89 rfl rfl (fun c => ?_) (fun c => ?_)
      · replace h := h.1 c
        refine y_aload_n 168 Y dX6_times_168 rfl ?_
        refine y_geta 169 Y 1 dX6_times_169 rfl rfl ?_
        refine y_sipush 172 Y dX6_times_172 rfl ?_
        refine y_iload_n 175 Y dX6_times_175 rfl ?_
        obtain ⟨o3, h⟩ := h
        refine y_imul 176 Y dX6_times_176 o3 ?_
        refine y_iload 177 Y dX6_times_177 rfl ?_
        obtain ⟨o4, h⟩ := h
        refine y_iadd 179 Y dX6_times_179 o4 ?_
        refine y_aload_n 180 Y dX6_times_180 rfl ?_
        refine y_geta 181 Y 2 dX6_times_181 rfl rfl ?_
        refine y_iload_n 184 Y dX6_times_184 rfl ?_
        refine y_iald 185 Y dX6_times_185 rfl rfl o1 o2 (fun _ => ?_)
        obtain ⟨o5, h⟩ := h
        refine y_iadd 186 Y dX6_times_186 o5 ?_
        refine y_lload 187 Y dX6_times_187 rfl ?_
        obtain ⟨o6, h⟩ := h
        refine y_l2i 189 Y dX6_times_189 o6 ?_
        obtain ⟨o7, h⟩ := h
        obtain ⟨o8, h⟩ := h
        refine y_iast 190 Y dX6_times_190 rfl rfl o7 o8 ?_
        obtain ⟨o9, h⟩ := h
        refine y_iinc 191 Y [some mt, some (mi l1), some (mi l2), some (mi l3), some (mi l4), some (mi (l5 + 1)), some (ml l6), none, some (ml l8), none, some (mi l10), none, none] dX6_times_191 rfl rfl o9 ?_
        refine y_goto 194 48 Y dX6_times_194 rfl rfl ?_
        obtain ⟨n1, hn, h⟩ := h
        exact Wk 48 _ [some mt, some (mi l1), some (mi l2), some (mi l3), some (mi l4), some (mi (l5 + 1)), none, none, none, none, none, none, none] _ _ ⟨rfl, ⟨rfl, ⟨rfl, ⟨rfl, ⟨rfl, ⟨rfl, trivial⟩⟩⟩⟩⟩⟩ (hIc n1 _ _ _ _ hn (Or.inr (Or.inl (⟨rfl, _, _, _, _, _, rfl, rfl, h⟩))))
      · replace h := h.2 c
        refine y_aload_n 92 Y dX6_times_92 rfl ?_
        refine y_geta 93 Y 1 dX6_times_93 rfl rfl ?_
        refine y_sipush 96 Y dX6_times_96 rfl ?_
        refine y_iload_n 99 Y dX6_times_99 rfl ?_
        obtain ⟨o10, h⟩ := h
        refine y_imul 100 Y dX6_times_100 o10 ?_
        refine y_iload 101 Y dX6_times_101 rfl ?_
        obtain ⟨o11, h⟩ := h
        refine y_iadd 103 Y dX6_times_103 o11 ?_
        refine y_iload 104 Y dX6_times_104 rfl ?_
        obtain ⟨o12, h⟩ := h
        refine y_iadd 106 Y dX6_times_106 o12 ?_
        obtain ⟨o13, h⟩ := h
        obtain ⟨o14, h⟩ := h
        refine y_iald 107 Y dX6_times_107 rfl rfl o13 o14 (fun _ => ?_)
        refine y_i2l 108 Y dX6_times_108 ?_
        refine y_lload 109 Y dX6_times_109 rfl ?_
        refine y_aload_n 111 Y dX6_times_111 rfl ?_
        refine y_geta 112 Y 1 dX6_times_112 rfl rfl ?_
        refine y_sipush 115 Y dX6_times_115 rfl ?_
        refine y_iload_n 118 Y dX6_times_118 rfl ?_
        obtain ⟨o15, h⟩ := h
        refine y_imul 119 Y dX6_times_119 o15 ?_
        refine y_iload 120 Y dX6_times_120 rfl ?_
        obtain ⟨o16, h⟩ := h
        refine y_iadd 122 Y dX6_times_122 o16 ?_
        obtain ⟨o17, h⟩ := h
        obtain ⟨o18, h⟩ := h
        refine y_iald 123 Y dX6_times_123 rfl rfl o17 o18 (fun _ => ?_)
        refine y_i2l 124 Y dX6_times_124 ?_
        obtain ⟨o19, h⟩ := h
        refine y_lmul 125 Y dX6_times_125 o19 ?_
        obtain ⟨o20, h⟩ := h
        refine y_ladd 126 Y dX6_times_126 o20 ?_
        refine y_lload 127 Y dX6_times_127 rfl ?_
        obtain ⟨o21, h⟩ := h
        refine y_ladd 129 Y dX6_times_129 o21 ?_
        refine y_lstore 130 Y [some mt, some (mi l1), some (mi l2), some (mi l3), some (mi l4), some (mi l5), some (ml l6), none, some (ml l8), none, some (mi l10), some (ml (((T 1 (((440 * l1) + l5) + l10)) + (l8 * (T 1 ((440 * l3) + l10)))) + l6)), none] dX6_times_130 rfl rfl ?_
        refine y_aload_n 132 Y dX6_times_132 rfl ?_
        refine y_geta 133 Y 1 dX6_times_133 rfl rfl ?_
        refine y_sipush 136 Y dX6_times_136 rfl ?_
        refine y_iload_n 139 Y dX6_times_139 rfl ?_
        refine y_imul 140 Y dX6_times_140 o10 ?_
        refine y_iload 141 Y dX6_times_141 rfl ?_
        refine y_iadd 143 Y dX6_times_143 o11 ?_
        refine y_iload 144 Y dX6_times_144 rfl ?_
        refine y_iadd 146 Y dX6_times_146 o12 ?_
        refine y_lload 147 Y dX6_times_147 rfl ?_
        refine y_ldc2_w 149 Y dX6_times_149 rfl ?_
        refine y_land 152 Y dX6_times_152 mm_65535 ?_
        obtain ⟨o22, h⟩ := h
        refine y_l2i 153 Y dX6_times_153 o22 ?_
        refine y_iast 154 Y dX6_times_154 rfl rfl o13 o14 ?_
        refine y_lload 155 Y dX6_times_155 rfl ?_
        refine y_bipush 157 Y dX6_times_157 rfl ?_
        refine y_lshr 159 Y 65536 rfl dX6_times_159 (by decide) (by decide) ?_
        refine y_lstore 160 Y [some mt, some (mi l1), some (mi l2), some (mi l3), some (mi l4), some (mi l5), some (ml ((((T 1 (((440 * l1) + l5) + l10)) + (l8 * (T 1 ((440 * l3) + l10)))) + l6) / 65536)), none, some (ml l8), none, some (mi l10), some (ml (((T 1 (((440 * l1) + l5) + l10)) + (l8 * (T 1 ((440 * l3) + l10)))) + l6)), none] dX6_times_160 rfl rfl ?_
        obtain ⟨o23, h⟩ := h
        refine y_iinc 162 Y [some mt, some (mi l1), some (mi l2), some (mi l3), some (mi l4), some (mi l5), some (ml ((((T 1 (((440 * l1) + l5) + l10)) + (l8 * (T 1 ((440 * l3) + l10)))) + l6) / 65536)), none, some (ml l8), none, some (mi (l10 + 1)), some (ml (((T 1 (((440 * l1) + l5) + l10)) + (l8 * (T 1 ((440 * l3) + l10)))) + l6)), none] dX6_times_162 rfl rfl o23 ?_
        refine y_goto 165 81 Y dX6_times_165 rfl rfl ?_
        obtain ⟨n1, hn, h⟩ := h
        exact Wk 81 _ [some mt, some (mi l1), some (mi l2), some (mi l3), some (mi l4), some (mi l5), some (ml ((((T 1 (((440 * l1) + l5) + l10)) + (l8 * (T 1 ((440 * l3) + l10)))) + l6) / 65536)), none, some (ml l8), none, some (mi (l10 + 1)), none, none] _ _ ⟨rfl, ⟨rfl, ⟨rfl, ⟨rfl, ⟨rfl, ⟨rfl, ⟨rfl, ⟨rfl, ⟨rfl, trivial⟩⟩⟩⟩⟩⟩⟩⟩⟩ (hIc n1 _ _ _ _ hn (Or.inr (Or.inr ((⟨rfl, _, _, _, _, _, _, _, _, rfl, rfl, h⟩)))))
set_option maxHeartbeats 4000000 in
theorem of_told {g : mG} {S : mS} {a1 a2 a3 : Int} {Qp : Option mV → mS → Prop}
    (hE : mI S → (-2147483648 ≤ a1 ∧ a1 ≤ 2147483647) → (-2147483648 ≤ a2 ∧ a2 ≤ 2147483647) → (-2147483648 ≤ a3 ∧ a3 ≤ 2147483647) → CX_in g [mi a2, mi 0, mi 2] S (Qi fun v2 S1 => mI S1 → (-2147483648 ≤ v2 ∧ v2 ≤ 2147483647) → ((v2 = 0) → CX_refused g [mt, mi 1, mi 0, mi 0] S1 (Qi fun v4 S3 => mI S3 → (-2147483648 ≤ v4 ∧ v4 ≤ 2147483647) → ((v4 = 0) → CX_signOf g [mi a1] S3 (Qi fun v6 S5 => mI S5 → (-2147483648 ≤ v6 ∧ v6 ≤ 2147483647) → (-2147483648 ≤ ((3 * v6) : Int) ∧ (3 * v6) ≤ 2147483647) ∧ (-2147483648 ≤ (((3 * v6) + a2) : Int) ∧ ((3 * v6) + a2) ≤ 2147483647) ∧ CX_signOf g [mi a1] S5 (Qi fun v10 S9 => mI S9 → (-2147483648 ≤ v10 ∧ v10 ≤ 2147483647) → ((v10 = (-1)) → Qp (some (mi (-1))) S9) ∧ (¬ (v10 = (-1)) → (0 ≤ ((3 * v6) + a2)) ∧ (((3 * v6) + a2) < 48) ∧ (((S9 15 ((3 * v6) + a2)) ≠ 0) → ((a3 ≠ 0) → ((a3 ≠ 1) → Qp (some (mi (S9 17 ((3 * v6) + a2)))) S9) ∧ (¬ (a3 ≠ 1) → Qp (some (mi (S9 16 ((3 * v6) + a2)))) S9)) ∧ (¬ (a3 ≠ 0) → Qp (some (mi (S9 15 ((3 * v6) + a2)))) S9)) ∧ (¬ ((S9 15 ((3 * v6) + a2)) ≠ 0) → Qp (some (mi (-1))) S9))))) ∧ (¬ (v4 = 0) → Qp (some (mi 0)) S3))) ∧ (¬ (v2 = 0) → CX_in g [mi a3, mi 0, mi 2] S1 (Qi fun v14 S13 => mI S13 → (-2147483648 ≤ v14 ∧ v14 ≤ 2147483647) → ((v14 ≠ 0) → CX_refused g [mt, mi 0, mi 0, mi 0] S13 (Qi fun v16 S15 => mI S15 → (-2147483648 ≤ v16 ∧ v16 ≤ 2147483647) → ((v16 = 0) → CX_signOf g [mi a1] S15 (Qi fun v18 S17 => mI S17 → (-2147483648 ≤ v18 ∧ v18 ≤ 2147483647) → (-2147483648 ≤ ((3 * v18) : Int) ∧ (3 * v18) ≤ 2147483647) ∧ (-2147483648 ≤ (((3 * v18) + a2) : Int) ∧ ((3 * v18) + a2) ≤ 2147483647) ∧ CX_signOf g [mi a1] S17 (Qi fun v22 S21 => mI S21 → (-2147483648 ≤ v22 ∧ v22 ≤ 2147483647) → ((v22 = (-1)) → Qp (some (mi (-1))) S21) ∧ (¬ (v22 = (-1)) → (0 ≤ ((3 * v18) + a2)) ∧ (((3 * v18) + a2) < 48) ∧ (((S21 15 ((3 * v18) + a2)) ≠ 0) → ((a3 ≠ 0) → ((a3 ≠ 1) → Qp (some (mi (S21 17 ((3 * v18) + a2)))) S21) ∧ (¬ (a3 ≠ 1) → Qp (some (mi (S21 16 ((3 * v18) + a2)))) S21)) ∧ (¬ (a3 ≠ 0) → Qp (some (mi (S21 15 ((3 * v18) + a2)))) S21)) ∧ (¬ ((S21 15 ((3 * v18) + a2)) ≠ 0) → Qp (some (mi (-1))) S21))))) ∧ (¬ (v16 = 0) → Qp (some (mi 0)) S15))) ∧ (¬ (v14 ≠ 0) → CX_refused g [mt, mi 1, mi 0, mi 0] S13 (Qi fun v26 S25 => mI S25 → (-2147483648 ≤ v26 ∧ v26 ≤ 2147483647) → ((v26 = 0) → CX_signOf g [mi a1] S25 (Qi fun v28 S27 => mI S27 → (-2147483648 ≤ v28 ∧ v28 ≤ 2147483647) → (-2147483648 ≤ ((3 * v28) : Int) ∧ (3 * v28) ≤ 2147483647) ∧ (-2147483648 ≤ (((3 * v28) + a2) : Int) ∧ ((3 * v28) + a2) ≤ 2147483647) ∧ CX_signOf g [mi a1] S27 (Qi fun v32 S31 => mI S31 → (-2147483648 ≤ v32 ∧ v32 ≤ 2147483647) → ((v32 = (-1)) → Qp (some (mi (-1))) S31) ∧ (¬ (v32 = (-1)) → (0 ≤ ((3 * v28) + a2)) ∧ (((3 * v28) + a2) < 48) ∧ (((S31 15 ((3 * v28) + a2)) ≠ 0) → ((a3 ≠ 0) → ((a3 ≠ 1) → Qp (some (mi (S31 17 ((3 * v28) + a2)))) S31) ∧ (¬ (a3 ≠ 1) → Qp (some (mi (S31 16 ((3 * v28) + a2)))) S31)) ∧ (¬ (a3 ≠ 0) → Qp (some (mi (S31 15 ((3 * v28) + a2)))) S31)) ∧ (¬ ((S31 15 ((3 * v28) + a2)) ≠ 0) → Qp (some (mi (-1))) S31))))) ∧ (¬ (v26 = 0) → Qp (some (mi 0)) S25)))))))
    : CX_told g [mt, mi a1, mi a2, mi a3] S Qp := by
  refine cm_y ⟨by decide, rfl⟩ (by simp [mcat]) (by simp) (fun _ _ _ _ _ => False) ?_ ?_
  · intro ha hS P Y Wk hIc
    have h := hE hS (mokI (ha (mi a1) (by simp))) (mokI (ha (mi a2) (by simp))) (mokI (ha (mi a3) (by simp)))
    clear hE ha
    refine y_aload_n 0 Y dX6_told_0 rfl ?_
    refine y_iload_n 1 Y dX6_told_1 rfl ?_
    refine y_iconst 2 Y dX6_told_2 rfl ?_
    refine y_iconst 3 Y dX6_told_3 rfl ?_
    refine y_calls 4 Y (as := [mi a2, mi 0, mi 2]) [mt] dX6_told_4 rfl rfl rfl rfl rfl h (fun r S1 hq hI hr => ?_)
    obtain ⟨v2, rfl, h⟩ := Qi_ok hq
    replace h := h hI (mokI (hr _ rfl))
    clear hq hr
    refine y_if 7 19 Y dX6_told_7 rfl rfl (fun c => ?_) (fun c => ?_)
    · replace h := h.1 c
      refine y_iconst 19 Y dX6_told_19 rfl ?_
      refine y_goto 20 24 Y dX6_told_20 rfl rfl ?_
      refine y_iconst 24 Y dX6_told_24 rfl ?_
      refine y_iconst 25 Y dX6_told_25 rfl ?_
      refine y_call 26 Y (as := [mi 1, mi 0, mi 0]) [] dX6_told_26 rfl rfl rfl rfl rfl h (fun r S3 hq hI hr => ?_)
      obtain ⟨v4, rfl, h⟩ := Qi_ok hq
      replace h := h hI (mokI (hr _ rfl))
      clear hq hr
      refine y_if 29 34 Y dX6_told_29 rfl rfl (fun c => ?_) (fun c => ?_)
      · replace h := h.1 c
        refine y_iconst 34 Y dX6_told_34 rfl ?_
        refine y_iload_n 35 Y dX6_told_35 rfl ?_
        refine y_calls 36 Y (as := [mi a1]) [mi 3] dX6_told_36 rfl rfl rfl rfl rfl h (fun r S5 hq hI hr => ?_)
        obtain ⟨v6, rfl, h⟩ := Qi_ok hq
        replace h := h hI (mokI (hr _ rfl))
        clear hq hr
        obtain ⟨o7, h⟩ := h
        refine y_imul 39 Y dX6_told_39 o7 ?_
        refine y_iload_n 40 Y dX6_told_40 rfl ?_
        obtain ⟨o8, h⟩ := h
        refine y_iadd 41 Y dX6_told_41 o8 ?_
        refine y_istore 42 Y [some mt, some (mi a1), some (mi a2), some (mi a3), some (mi ((3 * v6) + a2))] dX6_told_42 rfl rfl ?_
        refine y_iload_n 44 Y dX6_told_44 rfl ?_
        refine y_calls 45 Y (as := [mi a1]) [] dX6_told_45 rfl rfl rfl rfl rfl h (fun r S9 hq hI hr => ?_)
        obtain ⟨v10, rfl, h⟩ := Qi_ok hq
        replace h := h hI (mokI (hr _ rfl))
        clear hq hr
        refine y_iconst 48 Y dX6_told_48 rfl ?_
        refine y_icmp 49 62 Y dX6_told_49 rfl rfl (fun c => ?_) (fun c => ?_)
        · replace h := h.1 c
          refine y_iconst 62 Y dX6_told_62 rfl ?_
          refine y_goto 63 102 Y dX6_told_63 rfl rfl ?_
          exact y_iret 102 Y dX6_told_102 rfl h
        · replace h := h.2 c
          refine y_aload_n 52 Y dX6_told_52 rfl ?_
          refine y_geta 53 Y 15 dX6_told_53 rfl rfl ?_
          refine y_iload 56 Y dX6_told_56 rfl ?_
          obtain ⟨o11, h⟩ := h
          obtain ⟨o12, h⟩ := h
          refine y_iald 58 Y dX6_told_58 rfl rfl o11 o12 (fun _ => ?_)
          refine y_if 59 66 Y dX6_told_59 rfl rfl (fun c => ?_) (fun c => ?_)
          · replace h := h.1 c
            refine y_iload_n 66 Y dX6_told_66 rfl ?_
            refine y_if 67 80 Y dX6_told_67 rfl rfl (fun c => ?_) (fun c => ?_)
            · replace h := h.1 c
              refine y_iload_n 80 Y dX6_told_80 rfl ?_
              refine y_iconst 81 Y dX6_told_81 rfl ?_
              refine y_icmp 82 95 Y dX6_told_82 rfl rfl (fun c => ?_) (fun c => ?_)
              · replace h := h.1 c
                refine y_aload_n 95 Y dX6_told_95 rfl ?_
                refine y_geta 96 Y 17 dX6_told_96 rfl rfl ?_
                refine y_iload 99 Y dX6_told_99 rfl ?_
                refine y_iald 101 Y dX6_told_101 rfl rfl o11 o12 (fun _ => ?_)
                exact y_iret 102 Y dX6_told_102 rfl h
              · replace h := h.2 c
                refine y_aload_n 85 Y dX6_told_85 rfl ?_
                refine y_geta 86 Y 16 dX6_told_86 rfl rfl ?_
                refine y_iload 89 Y dX6_told_89 rfl ?_
                refine y_iald 91 Y dX6_told_91 rfl rfl o11 o12 (fun _ => ?_)
                refine y_goto 92 102 Y dX6_told_92 rfl rfl ?_
                exact y_iret 102 Y dX6_told_102 rfl h
            · replace h := h.2 c
              refine y_aload_n 70 Y dX6_told_70 rfl ?_
              refine y_geta 71 Y 15 dX6_told_71 rfl rfl ?_
              refine y_iload 74 Y dX6_told_74 rfl ?_
              refine y_iald 76 Y dX6_told_76 rfl rfl o11 o12 (fun _ => ?_)
              refine y_goto 77 102 Y dX6_told_77 rfl rfl ?_
              exact y_iret 102 Y dX6_told_102 rfl h
          · replace h := h.2 c
            refine y_iconst 62 Y dX6_told_62 rfl ?_
            refine y_goto 63 102 Y dX6_told_63 rfl rfl ?_
            exact y_iret 102 Y dX6_told_102 rfl h
      · replace h := h.2 c
        refine y_iconst 32 Y dX6_told_32 rfl ?_
        exact y_iret 33 Y dX6_told_33 rfl h
    · replace h := h.2 c
      refine y_iload_n 10 Y dX6_told_10 rfl ?_
      refine y_iconst 11 Y dX6_told_11 rfl ?_
      refine y_iconst 12 Y dX6_told_12 rfl ?_
      refine y_calls 13 Y (as := [mi a3, mi 0, mi 2]) [mt] dX6_told_13 rfl rfl rfl rfl rfl h (fun r S13 hq hI hr => ?_)
      obtain ⟨v14, rfl, h⟩ := Qi_ok hq
      replace h := h hI (mokI (hr _ rfl))
      clear hq hr
      refine y_if 16 23 Y dX6_told_16 rfl rfl (fun c => ?_) (fun c => ?_)
      · replace h := h.1 c
        refine y_iconst 23 Y dX6_told_23 rfl ?_
        refine y_iconst 24 Y dX6_told_24 rfl ?_
        refine y_iconst 25 Y dX6_told_25 rfl ?_
        refine y_call 26 Y (as := [mi 0, mi 0, mi 0]) [] dX6_told_26 rfl rfl rfl rfl rfl h (fun r S15 hq hI hr => ?_)
        obtain ⟨v16, rfl, h⟩ := Qi_ok hq
        replace h := h hI (mokI (hr _ rfl))
        clear hq hr
        refine y_if 29 34 Y dX6_told_29 rfl rfl (fun c => ?_) (fun c => ?_)
        · replace h := h.1 c
          refine y_iconst 34 Y dX6_told_34 rfl ?_
          refine y_iload_n 35 Y dX6_told_35 rfl ?_
          refine y_calls 36 Y (as := [mi a1]) [mi 3] dX6_told_36 rfl rfl rfl rfl rfl h (fun r S17 hq hI hr => ?_)
          obtain ⟨v18, rfl, h⟩ := Qi_ok hq
          replace h := h hI (mokI (hr _ rfl))
          clear hq hr
          obtain ⟨o19, h⟩ := h
          refine y_imul 39 Y dX6_told_39 o19 ?_
          refine y_iload_n 40 Y dX6_told_40 rfl ?_
          obtain ⟨o20, h⟩ := h
          refine y_iadd 41 Y dX6_told_41 o20 ?_
          refine y_istore 42 Y [some mt, some (mi a1), some (mi a2), some (mi a3), some (mi ((3 * v18) + a2))] dX6_told_42 rfl rfl ?_
          refine y_iload_n 44 Y dX6_told_44 rfl ?_
          refine y_calls 45 Y (as := [mi a1]) [] dX6_told_45 rfl rfl rfl rfl rfl h (fun r S21 hq hI hr => ?_)
          obtain ⟨v22, rfl, h⟩ := Qi_ok hq
          replace h := h hI (mokI (hr _ rfl))
          clear hq hr
          refine y_iconst 48 Y dX6_told_48 rfl ?_
          refine y_icmp 49 62 Y dX6_told_49 rfl rfl (fun c => ?_) (fun c => ?_)
          · replace h := h.1 c
            refine y_iconst 62 Y dX6_told_62 rfl ?_
            refine y_goto 63 102 Y dX6_told_63 rfl rfl ?_
            exact y_iret 102 Y dX6_told_102 rfl h
          · replace h := h.2 c
            refine y_aload_n 52 Y dX6_told_52 rfl ?_
            refine y_geta 53 Y 15 dX6_told_53 rfl rfl ?_
            refine y_iload 56 Y dX6_told_56 rfl ?_
            obtain ⟨o23, h⟩ := h
            obtain ⟨o24, h⟩ := h
            refine y_iald 58 Y dX6_told_58 rfl rfl o23 o24 (fun _ => ?_)
            refine y_if 59 66 Y dX6_told_59 rfl rfl (fun c => ?_) (fun c => ?_)
            · replace h := h.1 c
              refine y_iload_n 66 Y dX6_told_66 rfl ?_
              refine y_if 67 80 Y dX6_told_67 rfl rfl (fun c => ?_) (fun c => ?_)
              · replace h := h.1 c
                refine y_iload_n 80 Y dX6_told_80 rfl ?_
                refine y_iconst 81 Y dX6_told_81 rfl ?_
                refine y_icmp 82 95 Y dX6_told_82 rfl rfl (fun c => ?_) (fun c => ?_)
                · replace h := h.1 c
                  refine y_aload_n 95 Y dX6_told_95 rfl ?_
                  refine y_geta 96 Y 17 dX6_told_96 rfl rfl ?_
                  refine y_iload 99 Y dX6_told_99 rfl ?_
                  refine y_iald 101 Y dX6_told_101 rfl rfl o23 o24 (fun _ => ?_)
                  exact y_iret 102 Y dX6_told_102 rfl h
                · replace h := h.2 c
                  refine y_aload_n 85 Y dX6_told_85 rfl ?_
                  refine y_geta 86 Y 16 dX6_told_86 rfl rfl ?_
                  refine y_iload 89 Y dX6_told_89 rfl ?_
                  refine y_iald 91 Y dX6_told_91 rfl rfl o23 o24 (fun _ => ?_)
                  refine y_goto 92 102 Y dX6_told_92 rfl rfl ?_
                  exact y_iret 102 Y dX6_told_102 rfl h
              · replace h := h.2 c
                refine y_aload_n 70 Y dX6_told_70 rfl ?_
                refine y_geta 71 Y 15 dX6_told_71 rfl rfl ?_
                refine y_iload 74 Y dX6_told_74 rfl ?_
                refine y_iald 76 Y dX6_told_76 rfl rfl o23 o24 (fun _ => ?_)
                refine y_goto 77 102 Y dX6_told_77 rfl rfl ?_
                exact y_iret 102 Y dX6_told_102 rfl h
            · replace h := h.2 c
              refine y_iconst 62 Y dX6_told_62 rfl ?_
              refine y_goto 63 102 Y dX6_told_63 rfl rfl ?_
              exact y_iret 102 Y dX6_told_102 rfl h
        · replace h := h.2 c
          refine y_iconst 32 Y dX6_told_32 rfl ?_
          exact y_iret 33 Y dX6_told_33 rfl h
      · replace h := h.2 c
        refine y_iconst 19 Y dX6_told_19 rfl ?_
        refine y_goto 20 24 Y dX6_told_20 rfl rfl ?_
        refine y_iconst 24 Y dX6_told_24 rfl ?_
        refine y_iconst 25 Y dX6_told_25 rfl ?_
        refine y_call 26 Y (as := [mi 1, mi 0, mi 0]) [] dX6_told_26 rfl rfl rfl rfl rfl h (fun r S25 hq hI hr => ?_)
        obtain ⟨v26, rfl, h⟩ := Qi_ok hq
        replace h := h hI (mokI (hr _ rfl))
        clear hq hr
        refine y_if 29 34 Y dX6_told_29 rfl rfl (fun c => ?_) (fun c => ?_)
        · replace h := h.1 c
          refine y_iconst 34 Y dX6_told_34 rfl ?_
          refine y_iload_n 35 Y dX6_told_35 rfl ?_
          refine y_calls 36 Y (as := [mi a1]) [mi 3] dX6_told_36 rfl rfl rfl rfl rfl h (fun r S27 hq hI hr => ?_)
          obtain ⟨v28, rfl, h⟩ := Qi_ok hq
          replace h := h hI (mokI (hr _ rfl))
          clear hq hr
          obtain ⟨o29, h⟩ := h
          refine y_imul 39 Y dX6_told_39 o29 ?_
          refine y_iload_n 40 Y dX6_told_40 rfl ?_
          obtain ⟨o30, h⟩ := h
          refine y_iadd 41 Y dX6_told_41 o30 ?_
          refine y_istore 42 Y [some mt, some (mi a1), some (mi a2), some (mi a3), some (mi ((3 * v28) + a2))] dX6_told_42 rfl rfl ?_
          refine y_iload_n 44 Y dX6_told_44 rfl ?_
          refine y_calls 45 Y (as := [mi a1]) [] dX6_told_45 rfl rfl rfl rfl rfl h (fun r S31 hq hI hr => ?_)
          obtain ⟨v32, rfl, h⟩ := Qi_ok hq
          replace h := h hI (mokI (hr _ rfl))
          clear hq hr
          refine y_iconst 48 Y dX6_told_48 rfl ?_
          refine y_icmp 49 62 Y dX6_told_49 rfl rfl (fun c => ?_) (fun c => ?_)
          · replace h := h.1 c
            refine y_iconst 62 Y dX6_told_62 rfl ?_
            refine y_goto 63 102 Y dX6_told_63 rfl rfl ?_
            exact y_iret 102 Y dX6_told_102 rfl h
          · replace h := h.2 c
            refine y_aload_n 52 Y dX6_told_52 rfl ?_
            refine y_geta 53 Y 15 dX6_told_53 rfl rfl ?_
            refine y_iload 56 Y dX6_told_56 rfl ?_
            obtain ⟨o33, h⟩ := h
            obtain ⟨o34, h⟩ := h
            refine y_iald 58 Y dX6_told_58 rfl rfl o33 o34 (fun _ => ?_)
            refine y_if 59 66 Y dX6_told_59 rfl rfl (fun c => ?_) (fun c => ?_)
            · replace h := h.1 c
              refine y_iload_n 66 Y dX6_told_66 rfl ?_
              refine y_if 67 80 Y dX6_told_67 rfl rfl (fun c => ?_) (fun c => ?_)
              · replace h := h.1 c
                refine y_iload_n 80 Y dX6_told_80 rfl ?_
                refine y_iconst 81 Y dX6_told_81 rfl ?_
                refine y_icmp 82 95 Y dX6_told_82 rfl rfl (fun c => ?_) (fun c => ?_)
                · replace h := h.1 c
                  refine y_aload_n 95 Y dX6_told_95 rfl ?_
                  refine y_geta 96 Y 17 dX6_told_96 rfl rfl ?_
                  refine y_iload 99 Y dX6_told_99 rfl ?_
                  refine y_iald 101 Y dX6_told_101 rfl rfl o33 o34 (fun _ => ?_)
                  exact y_iret 102 Y dX6_told_102 rfl h
                · replace h := h.2 c
                  refine y_aload_n 85 Y dX6_told_85 rfl ?_
                  refine y_geta 86 Y 16 dX6_told_86 rfl rfl ?_
                  refine y_iload 89 Y dX6_told_89 rfl ?_
                  refine y_iald 91 Y dX6_told_91 rfl rfl o33 o34 (fun _ => ?_)
                  refine y_goto 92 102 Y dX6_told_92 rfl rfl ?_
                  exact y_iret 102 Y dX6_told_102 rfl h
              · replace h := h.2 c
                refine y_aload_n 70 Y dX6_told_70 rfl ?_
                refine y_geta 71 Y 15 dX6_told_71 rfl rfl ?_
                refine y_iload 74 Y dX6_told_74 rfl ?_
                refine y_iald 76 Y dX6_told_76 rfl rfl o33 o34 (fun _ => ?_)
                refine y_goto 77 102 Y dX6_told_77 rfl rfl ?_
                exact y_iret 102 Y dX6_told_102 rfl h
            · replace h := h.2 c
              refine y_iconst 62 Y dX6_told_62 rfl ?_
              refine y_goto 63 102 Y dX6_told_63 rfl rfl ?_
              exact y_iret 102 Y dX6_told_102 rfl h
        · replace h := h.2 c
          refine y_iconst 32 Y dX6_told_32 rfl ?_
          exact y_iret 33 Y dX6_told_33 rfl h
  · intro n pc L st T hi
    exact hi.elim
set_option maxHeartbeats 4000000 in
theorem of_trace {g : mG} {S : mS} {a1 a2 : Int} {Qp : Option mV → mS → Prop}
    (hE : mI S → (-2147483648 ≤ a1 ∧ a1 ≤ 2147483647) → (-2147483648 ≤ a2 ∧ a2 ≤ 2147483647) → CX_in g [mi a2, mi 0, mi 1] S (Qi fun v2 S1 => mI S1 → (-2147483648 ≤ v2 ∧ v2 ≤ 2147483647) → ((v2 ≠ 0) → CX_refused g [mt, mi 0, mi 0, mi 0] S1 (Qi fun v4 S3 => mI S3 → (-2147483648 ≤ v4 ∧ v4 ≤ 2147483647) → ((v4 = 0) → (-2147483648 ≤ (((S3 67 0) - 1) : Int) ∧ ((S3 67 0) - 1) ≤ 2147483647) ∧ CX_in g [mi a1, mi 0, mi ((S3 67 0) - 1)] S3 (Qi fun v7 S6 => mI S6 → (-2147483648 ≤ v7 ∧ v7 ≤ 2147483647) → ((v7 ≠ 0) → ((a2 ≠ 0) → (0 ≤ a1) ∧ (a1 < 100) ∧ Qp (some (mi (S6 66 a1))) S6) ∧ (¬ (a2 ≠ 0) → (0 ≤ a1) ∧ (a1 < 100) ∧ Qp (some (mi (S6 65 a1))) S6)) ∧ (¬ (v7 ≠ 0) → Qp (some (mi (-1))) S6))) ∧ (¬ (v4 = 0) → Qp (some (mi 0)) S3))) ∧ (¬ (v2 ≠ 0) → CX_refused g [mt, mi 1, mi 0, mi 0] S1 (Qi fun v13 S12 => mI S12 → (-2147483648 ≤ v13 ∧ v13 ≤ 2147483647) → ((v13 = 0) → (-2147483648 ≤ (((S12 67 0) - 1) : Int) ∧ ((S12 67 0) - 1) ≤ 2147483647) ∧ CX_in g [mi a1, mi 0, mi ((S12 67 0) - 1)] S12 (Qi fun v16 S15 => mI S15 → (-2147483648 ≤ v16 ∧ v16 ≤ 2147483647) → ((v16 ≠ 0) → ((a2 ≠ 0) → (0 ≤ a1) ∧ (a1 < 100) ∧ Qp (some (mi (S15 66 a1))) S15) ∧ (¬ (a2 ≠ 0) → (0 ≤ a1) ∧ (a1 < 100) ∧ Qp (some (mi (S15 65 a1))) S15)) ∧ (¬ (v16 ≠ 0) → Qp (some (mi (-1))) S15))) ∧ (¬ (v13 = 0) → Qp (some (mi 0)) S12)))))
    : CX_trace g [mt, mi a1, mi a2] S Qp := by
  refine cm_y ⟨by decide, rfl⟩ (by simp [mcat]) (by simp) (fun _ _ _ _ _ => False) ?_ ?_
  · intro ha hS P Y Wk hIc
    have h := hE hS (mokI (ha (mi a1) (by simp))) (mokI (ha (mi a2) (by simp)))
    clear hE ha
    refine y_aload_n 0 Y dX6_trace_0 rfl ?_
    refine y_iload_n 1 Y dX6_trace_1 rfl ?_
    refine y_iconst 2 Y dX6_trace_2 rfl ?_
    refine y_iconst 3 Y dX6_trace_3 rfl ?_
    refine y_calls 4 Y (as := [mi a2, mi 0, mi 1]) [mt] dX6_trace_4 rfl rfl rfl rfl rfl h (fun r S1 hq hI hr => ?_)
    obtain ⟨v2, rfl, h⟩ := Qi_ok hq
    replace h := h hI (mokI (hr _ rfl))
    clear hq hr
    refine y_if 7 14 Y dX6_trace_7 rfl rfl (fun c => ?_) (fun c => ?_)
    · replace h := h.1 c
      refine y_iconst 14 Y dX6_trace_14 rfl ?_
      refine y_iconst 15 Y dX6_trace_15 rfl ?_
      refine y_iconst 16 Y dX6_trace_16 rfl ?_
      refine y_call 17 Y (as := [mi 0, mi 0, mi 0]) [] dX6_trace_17 rfl rfl rfl rfl rfl h (fun r S3 hq hI hr => ?_)
      obtain ⟨v4, rfl, h⟩ := Qi_ok hq
      replace h := h hI (mokI (hr _ rfl))
      clear hq hr
      refine y_if 20 25 Y dX6_trace_20 rfl rfl (fun c => ?_) (fun c => ?_)
      · replace h := h.1 c
        refine y_iload_n 25 Y dX6_trace_25 rfl ?_
        refine y_iconst 26 Y dX6_trace_26 rfl ?_
        refine y_aload_n 27 Y dX6_trace_27 rfl ?_
        refine y_getf 28 Y 67 dX6_trace_28 rfl rfl (fun _ => ?_)
        refine y_iconst 31 Y dX6_trace_31 rfl ?_
        obtain ⟨o5, h⟩ := h
        refine y_isub 32 Y dX6_trace_32 o5 ?_
        refine y_calls 33 Y (as := [mi a1, mi 0, mi ((S3 67 0) - 1)]) [] dX6_trace_33 rfl rfl rfl rfl rfl h (fun r S6 hq hI hr => ?_)
        obtain ⟨v7, rfl, h⟩ := Qi_ok hq
        replace h := h hI (mokI (hr _ rfl))
        clear hq hr
        refine y_if 36 43 Y dX6_trace_36 rfl rfl (fun c => ?_) (fun c => ?_)
        · replace h := h.1 c
          refine y_iload_n 43 Y dX6_trace_43 rfl ?_
          refine y_if 44 56 Y dX6_trace_44 rfl rfl (fun c => ?_) (fun c => ?_)
          · replace h := h.1 c
            refine y_aload_n 56 Y dX6_trace_56 rfl ?_
            refine y_geta 57 Y 66 dX6_trace_57 rfl rfl ?_
            refine y_iload_n 60 Y dX6_trace_60 rfl ?_
            obtain ⟨o8, h⟩ := h
            obtain ⟨o9, h⟩ := h
            refine y_iald 61 Y dX6_trace_61 rfl rfl o8 o9 (fun _ => ?_)
            exact y_iret 62 Y dX6_trace_62 rfl h
          · replace h := h.2 c
            refine y_aload_n 47 Y dX6_trace_47 rfl ?_
            refine y_geta 48 Y 65 dX6_trace_48 rfl rfl ?_
            refine y_iload_n 51 Y dX6_trace_51 rfl ?_
            obtain ⟨o10, h⟩ := h
            obtain ⟨o11, h⟩ := h
            refine y_iald 52 Y dX6_trace_52 rfl rfl o10 o11 (fun _ => ?_)
            refine y_goto 53 62 Y dX6_trace_53 rfl rfl ?_
            exact y_iret 62 Y dX6_trace_62 rfl h
        · replace h := h.2 c
          refine y_iconst 39 Y dX6_trace_39 rfl ?_
          refine y_goto 40 62 Y dX6_trace_40 rfl rfl ?_
          exact y_iret 62 Y dX6_trace_62 rfl h
      · replace h := h.2 c
        refine y_iconst 23 Y dX6_trace_23 rfl ?_
        exact y_iret 24 Y dX6_trace_24 rfl h
    · replace h := h.2 c
      refine y_iconst 10 Y dX6_trace_10 rfl ?_
      refine y_goto 11 15 Y dX6_trace_11 rfl rfl ?_
      refine y_iconst 15 Y dX6_trace_15 rfl ?_
      refine y_iconst 16 Y dX6_trace_16 rfl ?_
      refine y_call 17 Y (as := [mi 1, mi 0, mi 0]) [] dX6_trace_17 rfl rfl rfl rfl rfl h (fun r S12 hq hI hr => ?_)
      obtain ⟨v13, rfl, h⟩ := Qi_ok hq
      replace h := h hI (mokI (hr _ rfl))
      clear hq hr
      refine y_if 20 25 Y dX6_trace_20 rfl rfl (fun c => ?_) (fun c => ?_)
      · replace h := h.1 c
        refine y_iload_n 25 Y dX6_trace_25 rfl ?_
        refine y_iconst 26 Y dX6_trace_26 rfl ?_
        refine y_aload_n 27 Y dX6_trace_27 rfl ?_
        refine y_getf 28 Y 67 dX6_trace_28 rfl rfl (fun _ => ?_)
        refine y_iconst 31 Y dX6_trace_31 rfl ?_
        obtain ⟨o14, h⟩ := h
        refine y_isub 32 Y dX6_trace_32 o14 ?_
        refine y_calls 33 Y (as := [mi a1, mi 0, mi ((S12 67 0) - 1)]) [] dX6_trace_33 rfl rfl rfl rfl rfl h (fun r S15 hq hI hr => ?_)
        obtain ⟨v16, rfl, h⟩ := Qi_ok hq
        replace h := h hI (mokI (hr _ rfl))
        clear hq hr
        refine y_if 36 43 Y dX6_trace_36 rfl rfl (fun c => ?_) (fun c => ?_)
        · replace h := h.1 c
          refine y_iload_n 43 Y dX6_trace_43 rfl ?_
          refine y_if 44 56 Y dX6_trace_44 rfl rfl (fun c => ?_) (fun c => ?_)
          · replace h := h.1 c
            refine y_aload_n 56 Y dX6_trace_56 rfl ?_
            refine y_geta 57 Y 66 dX6_trace_57 rfl rfl ?_
            refine y_iload_n 60 Y dX6_trace_60 rfl ?_
            obtain ⟨o17, h⟩ := h
            obtain ⟨o18, h⟩ := h
            refine y_iald 61 Y dX6_trace_61 rfl rfl o17 o18 (fun _ => ?_)
            exact y_iret 62 Y dX6_trace_62 rfl h
          · replace h := h.2 c
            refine y_aload_n 47 Y dX6_trace_47 rfl ?_
            refine y_geta 48 Y 65 dX6_trace_48 rfl rfl ?_
            refine y_iload_n 51 Y dX6_trace_51 rfl ?_
            obtain ⟨o19, h⟩ := h
            obtain ⟨o20, h⟩ := h
            refine y_iald 52 Y dX6_trace_52 rfl rfl o19 o20 (fun _ => ?_)
            refine y_goto 53 62 Y dX6_trace_53 rfl rfl ?_
            exact y_iret 62 Y dX6_trace_62 rfl h
        · replace h := h.2 c
          refine y_iconst 39 Y dX6_trace_39 rfl ?_
          refine y_goto 40 62 Y dX6_trace_40 rfl rfl ?_
          exact y_iret 62 Y dX6_trace_62 rfl h
      · replace h := h.2 c
        refine y_iconst 23 Y dX6_trace_23 rfl ?_
        exact y_iret 24 Y dX6_trace_24 rfl h
  · intro n pc L st T hi
    exact hi.elim
set_option maxHeartbeats 4000000 in
theorem of_type {g : mG} {S : mS} {a1 : Int} {Qp : Option mV → mS → Prop}
    (hE : mI S → (-2147483648 ≤ a1 ∧ a1 ≤ 2147483647) → (((S 19 0) ≠ 60) → CX_refused g [mt, mi 0, mi 0, mi 0] S (Qi fun v2 S1 => mI S1 → (-2147483648 ≤ v2 ∧ v2 ≤ 2147483647) → ((v2 = 0) → (0 ≤ (S1 19 0)) ∧ ((S1 19 0) < 60) ∧ (-2147483648 ≤ (((S1 19 0) + 1) : Int) ∧ ((S1 19 0) + 1) ≤ 2147483647) ∧ (-2147483648 ≤ ((mup S1 19 0 ((S1 19 0) + 1)) 19 0) ∧ ((mup S1 19 0 ((S1 19 0) + 1)) 19 0) ≤ 2147483647 → Qp (some (mi ((mup S1 19 0 ((S1 19 0) + 1)) 19 0))) (mup (mup S1 18 (S1 19 0) a1) 19 0 ((S1 19 0) + 1)))) ∧ (¬ (v2 = 0) → Qp (some (mi 0)) S1))) ∧ (¬ ((S 19 0) ≠ 60) → CX_refused g [mt, mi 1, mi 0, mi 0] S (Qi fun v7 S6 => mI S6 → (-2147483648 ≤ v7 ∧ v7 ≤ 2147483647) → ((v7 = 0) → (0 ≤ (S6 19 0)) ∧ ((S6 19 0) < 60) ∧ (-2147483648 ≤ (((S6 19 0) + 1) : Int) ∧ ((S6 19 0) + 1) ≤ 2147483647) ∧ (-2147483648 ≤ ((mup S6 19 0 ((S6 19 0) + 1)) 19 0) ∧ ((mup S6 19 0 ((S6 19 0) + 1)) 19 0) ≤ 2147483647 → Qp (some (mi ((mup S6 19 0 ((S6 19 0) + 1)) 19 0))) (mup (mup S6 18 (S6 19 0) a1) 19 0 ((S6 19 0) + 1)))) ∧ (¬ (v7 = 0) → Qp (some (mi 0)) S6))))
    : CX_type g [mt, mi a1] S Qp := by
  refine cm_y ⟨by decide, rfl⟩ (by simp [mcat]) (by simp) (fun _ _ _ _ _ => False) ?_ ?_
  · intro ha hS P Y Wk hIc
    have h := hE hS (mokI (ha (mi a1) (by simp)))
    clear hE ha
    refine y_aload_n 0 Y dX6_type_0 rfl ?_
    refine y_aload_n 1 Y dX6_type_1 rfl ?_
    refine y_getf 2 Y 19 dX6_type_2 rfl rfl (fun _ => ?_)
    refine y_bipush 5 Y dX6_type_5 rfl ?_
    refine y_icmp 7 14 Y dX6_type_7 rfl rfl (fun c => ?_) (fun c => ?_)
    · replace h := h.1 c
      refine y_iconst 14 Y dX6_type_14 rfl ?_
      refine y_iconst 15 Y dX6_type_15 rfl ?_
      refine y_iconst 16 Y dX6_type_16 rfl ?_
      refine y_call 17 Y (as := [mi 0, mi 0, mi 0]) [] dX6_type_17 rfl rfl rfl rfl rfl h (fun r S1 hq hI hr => ?_)
      obtain ⟨v2, rfl, h⟩ := Qi_ok hq
      replace h := h hI (mokI (hr _ rfl))
      clear hq hr
      refine y_if 20 25 Y dX6_type_20 rfl rfl (fun c => ?_) (fun c => ?_)
      · replace h := h.1 c
        refine y_aload_n 25 Y dX6_type_25 rfl ?_
        refine y_geta 26 Y 18 dX6_type_26 rfl rfl ?_
        refine y_aload_n 29 Y dX6_type_29 rfl ?_
        refine y_getf 30 Y 19 dX6_type_30 rfl rfl (fun _ => ?_)
        refine y_iload_n 33 Y dX6_type_33 rfl ?_
        obtain ⟨o3, h⟩ := h
        obtain ⟨o4, h⟩ := h
        refine y_iast 34 Y dX6_type_34 rfl rfl o3 o4 ?_
        refine y_aload_n 35 Y dX6_type_35 rfl ?_
        refine y_dup 36 Y dX6_type_36 rfl ?_
        refine y_getf 37 Y 19 dX6_type_37 rfl rfl (fun _ => ?_)
        refine y_iconst 40 Y dX6_type_40 rfl ?_
        obtain ⟨o5, h⟩ := h
        refine y_iadd 41 Y dX6_type_41 o5 ?_
        refine y_putf 42 Y 19 dX6_type_42 rfl rfl (fun q => absurd q (by decide)) ?_
        refine y_aload_n 45 Y dX6_type_45 rfl ?_
        refine y_getf 46 Y 19 dX6_type_46 rfl rfl (fun q => ?_)
        replace h := h q
        exact y_iret 49 Y dX6_type_49 rfl h
      · replace h := h.2 c
        refine y_iconst 23 Y dX6_type_23 rfl ?_
        exact y_iret 24 Y dX6_type_24 rfl h
    · replace h := h.2 c
      refine y_iconst 10 Y dX6_type_10 rfl ?_
      refine y_goto 11 15 Y dX6_type_11 rfl rfl ?_
      refine y_iconst 15 Y dX6_type_15 rfl ?_
      refine y_iconst 16 Y dX6_type_16 rfl ?_
      refine y_call 17 Y (as := [mi 1, mi 0, mi 0]) [] dX6_type_17 rfl rfl rfl rfl rfl h (fun r S6 hq hI hr => ?_)
      obtain ⟨v7, rfl, h⟩ := Qi_ok hq
      replace h := h hI (mokI (hr _ rfl))
      clear hq hr
      refine y_if 20 25 Y dX6_type_20 rfl rfl (fun c => ?_) (fun c => ?_)
      · replace h := h.1 c
        refine y_aload_n 25 Y dX6_type_25 rfl ?_
        refine y_geta 26 Y 18 dX6_type_26 rfl rfl ?_
        refine y_aload_n 29 Y dX6_type_29 rfl ?_
        refine y_getf 30 Y 19 dX6_type_30 rfl rfl (fun _ => ?_)
        refine y_iload_n 33 Y dX6_type_33 rfl ?_
        obtain ⟨o8, h⟩ := h
        obtain ⟨o9, h⟩ := h
        refine y_iast 34 Y dX6_type_34 rfl rfl o8 o9 ?_
        refine y_aload_n 35 Y dX6_type_35 rfl ?_
        refine y_dup 36 Y dX6_type_36 rfl ?_
        refine y_getf 37 Y 19 dX6_type_37 rfl rfl (fun _ => ?_)
        refine y_iconst 40 Y dX6_type_40 rfl ?_
        obtain ⟨o10, h⟩ := h
        refine y_iadd 41 Y dX6_type_41 o10 ?_
        refine y_putf 42 Y 19 dX6_type_42 rfl rfl (fun q => absurd q (by decide)) ?_
        refine y_aload_n 45 Y dX6_type_45 rfl ?_
        refine y_getf 46 Y 19 dX6_type_46 rfl rfl (fun q => ?_)
        replace h := h q
        exact y_iret 49 Y dX6_type_49 rfl h
      · replace h := h.2 c
        refine y_iconst 23 Y dX6_type_23 rfl ?_
        exact y_iret 24 Y dX6_type_24 rfl h
  · intro n pc L st T hi
    exact hi.elim
set_option maxHeartbeats 4000000 in
theorem of_undo {g : mG} {S : mS}  {Qp : Option mV → mS → Prop} (I187 : Nat → Int → Int → Int → mS → Prop)
    (hE : mI S → (((S 84 0) ≠ 0) → (-2147483648 ≤ (((S 84 0) - 1) : Int) ∧ ((S 84 0) - 1) ≤ 2147483647) ∧ (-2147483648 ≤ ((mup S 84 0 ((S 84 0) - 1)) 84 0) ∧ ((mup S 84 0 ((S 84 0) - 1)) 84 0) ≤ 2147483647 → (-2147483648 ≤ (((S 83 0) + ((mup S 84 0 ((S 84 0) - 1)) 84 0)) : Int) ∧ ((S 83 0) + ((mup S 84 0 ((S 84 0) - 1)) 84 0)) ≤ 2147483647) ∧ (0 ≤ ((S 83 0) + ((mup S 84 0 ((S 84 0) - 1)) 84 0))) ∧ (0 ≤ (((S 83 0) + ((mup S 84 0 ((S 84 0) - 1)) 84 0)) % 20)) ∧ ((((S 83 0) + ((mup S 84 0 ((S 84 0) - 1)) 84 0)) % 20) < 20) ∧ ((S 77 (((S 83 0) + ((mup S 84 0 ((S 84 0) - 1)) 84 0)) % 20)) = 0 → (-2147483648 ≤ (((S 10 0) - 1) : Int) ∧ ((S 10 0) - 1) ≤ 2147483647) ∧ Qp (some (mi (S 77 (((S 83 0) + ((mup S 84 0 ((S 84 0) - 1)) 84 0)) % 20)))) (mup (mup (mup S 0 0 0) 84 0 ((S 84 0) - 1)) 10 0 ((S 10 0) - 1))) ∧ ((S 77 (((S 83 0) + ((mup S 84 0 ((S 84 0) - 1)) 84 0)) % 20)) = 1 → (0 ≤ (S 78 (((S 83 0) + ((mup S 84 0 ((S 84 0) - 1)) 84 0)) % 20))) ∧ ((S 78 (((S 83 0) + ((mup S 84 0 ((S 84 0) - 1)) 84 0)) % 20)) < 48) ∧ Qp (some (mi (S 77 (((S 83 0) + ((mup S 84 0 ((S 84 0) - 1)) 84 0)) % 20)))) (mup (mup (mup (mup (mup S 0 0 0) 84 0 ((S 84 0) - 1)) 15 (S 78 (((S 83 0) + ((mup S 84 0 ((S 84 0) - 1)) 84 0)) % 20)) (S 79 (((S 83 0) + ((mup S 84 0 ((S 84 0) - 1)) 84 0)) % 20))) 16 (S 78 (((S 83 0) + ((mup S 84 0 ((S 84 0) - 1)) 84 0)) % 20)) (S 80 (((S 83 0) + ((mup S 84 0 ((S 84 0) - 1)) 84 0)) % 20))) 17 (S 78 (((S 83 0) + ((mup S 84 0 ((S 84 0) - 1)) 84 0)) % 20)) (S 81 (((S 83 0) + ((mup S 84 0 ((S 84 0) - 1)) 84 0)) % 20)))) ∧ ((S 77 (((S 83 0) + ((mup S 84 0 ((S 84 0) - 1)) 84 0)) % 20)) = 2 → (((S 79 (((S 83 0) + ((mup S 84 0 ((S 84 0) - 1)) 84 0)) % 20)) ≠ 1) → (0 ≤ (S 78 (((S 83 0) + ((mup S 84 0 ((S 84 0) - 1)) 84 0)) % 20))) ∧ ((S 78 (((S 83 0) + ((mup S 84 0 ((S 84 0) - 1)) 84 0)) % 20)) < 26) ∧ (-2147483648 ≤ ((27 + (((S 83 0) + ((mup S 84 0 ((S 84 0) - 1)) 84 0)) % 20)) : Int) ∧ (27 + (((S 83 0) + ((mup S 84 0 ((S 84 0) - 1)) 84 0)) % 20)) ≤ 2147483647) ∧ CX_copyValue g [mt, mi (S 78 (((S 83 0) + ((mup S 84 0 ((S 84 0) - 1)) 84 0)) % 20)), mi (27 + (((S 83 0) + ((mup S 84 0 ((S 84 0) - 1)) 84 0)) % 20))] (mup (mup (mup S 0 0 0) 84 0 ((S 84 0) - 1)) 47 (S 78 (((S 83 0) + ((mup S 84 0 ((S 84 0) - 1)) 84 0)) % 20)) 0) (Qv fun S12 => mI S12 → Qp (some (mi (S12 77 (((S 83 0) + ((mup S 84 0 ((S 84 0) - 1)) 84 0)) % 20)))) S12)) ∧ (¬ ((S 79 (((S 83 0) + ((mup S 84 0 ((S 84 0) - 1)) 84 0)) % 20)) ≠ 1) → (0 ≤ (S 78 (((S 83 0) + ((mup S 84 0 ((S 84 0) - 1)) 84 0)) % 20))) ∧ ((S 78 (((S 83 0) + ((mup S 84 0 ((S 84 0) - 1)) 84 0)) % 20)) < 26) ∧ (-2147483648 ≤ ((27 + (((S 83 0) + ((mup S 84 0 ((S 84 0) - 1)) 84 0)) % 20)) : Int) ∧ (27 + (((S 83 0) + ((mup S 84 0 ((S 84 0) - 1)) 84 0)) % 20)) ≤ 2147483647) ∧ CX_copyValue g [mt, mi (S 78 (((S 83 0) + ((mup S 84 0 ((S 84 0) - 1)) 84 0)) % 20)), mi (27 + (((S 83 0) + ((mup S 84 0 ((S 84 0) - 1)) 84 0)) % 20))] (mup (mup (mup S 0 0 0) 84 0 ((S 84 0) - 1)) 47 (S 78 (((S 83 0) + ((mup S 84 0 ((S 84 0) - 1)) 84 0)) % 20)) 1) (Qv fun S16 => mI S16 → Qp (some (mi (S16 77 (((S 83 0) + ((mup S 84 0 ((S 84 0) - 1)) 84 0)) % 20)))) S16))) ∧ ((S 77 (((S 83 0) + ((mup S 84 0 ((S 84 0) - 1)) 84 0)) % 20)) < 0 ∨ 2 < (S 77 (((S 83 0) + ((mup S 84 0 ((S 84 0) - 1)) 84 0)) % 20)) → (0 ≤ (S 78 (((S 83 0) + ((mup S 84 0 ((S 84 0) - 1)) 84 0)) % 20))) ∧ ((S 78 (((S 83 0) + ((mup S 84 0 ((S 84 0) - 1)) 84 0)) % 20)) < 26) ∧ (∃ n1, I187 n1 (((S 83 0) + ((mup S 84 0 ((S 84 0) - 1)) 84 0)) % 20) (S 78 (((S 83 0) + ((mup S 84 0 ((S 84 0) - 1)) 84 0)) % 20)) 0 (mup (mup (mup (mup S 0 0 0) 84 0 ((S 84 0) - 1)) 11 (S 78 (((S 83 0) + ((mup S 84 0 ((S 84 0) - 1)) 84 0)) % 20)) (S 79 (((S 83 0) + ((mup S 84 0 ((S 84 0) - 1)) 84 0)) % 20))) 12 (S 78 (((S 83 0) + ((mup S 84 0 ((S 84 0) - 1)) 84 0)) % 20)) (S 80 (((S 83 0) + ((mup S 84 0 ((S 84 0) - 1)) 84 0)) % 20))))))) ∧ (¬ ((S 84 0) ≠ 0) → Qp (some (mi (-1))) (mup S 0 0 0)))
    (h187 : ∀ (n : Nat) (l1 l2 l3 : Int) (T : mS), mI T → (-2147483648 ≤ l1 ∧ l1 ≤ 2147483647) → (-2147483648 ≤ l2 ∧ l2 ≤ 2147483647) → (-2147483648 ≤ l3 ∧ l3 ≤ 2147483647) → I187 n l1 l2 l3 T → ((8 ≤ l3) → (0 ≤ l1) ∧ (l1 < 20) ∧ Qp (some (mi (T 77 l1))) T) ∧ (¬ (8 ≤ l3) → (-2147483648 ≤ ((8 * l2) : Int) ∧ (8 * l2) ≤ 2147483647) ∧ (-2147483648 ≤ (((8 * l2) + l3) : Int) ∧ ((8 * l2) + l3) ≤ 2147483647) ∧ (-2147483648 ≤ ((8 * l1) : Int) ∧ (8 * l1) ≤ 2147483647) ∧ (-2147483648 ≤ (((8 * l1) + l3) : Int) ∧ ((8 * l1) + l3) ≤ 2147483647) ∧ (0 ≤ ((8 * l1) + l3)) ∧ (((8 * l1) + l3) < 160) ∧ (0 ≤ ((8 * l2) + l3)) ∧ (((8 * l2) + l3) < 208) ∧ (-2147483648 ≤ ((30 * ((8 * l2) + l3)) : Int) ∧ (30 * ((8 * l2) + l3)) ≤ 2147483647) ∧ (-2147483648 ≤ ((2400 + (30 * ((8 * l2) + l3))) : Int) ∧ (2400 + (30 * ((8 * l2) + l3))) ≤ 2147483647) ∧ (-2147483648 ≤ ((30 * ((8 * l1) + l3)) : Int) ∧ (30 * ((8 * l1) + l3)) ≤ 2147483647) ∧ (-2147483648 ≤ ((8640 + (30 * ((8 * l1) + l3))) : Int) ∧ (8640 + (30 * ((8 * l1) + l3))) ≤ 2147483647) ∧ (-2147483648 ≤ ((mup T 13 ((8 * l2) + l3) (T 82 ((8 * l1) + l3))) 13 ((8 * l2) + l3)) ∧ ((mup T 13 ((8 * l2) + l3) (T 82 ((8 * l1) + l3))) 13 ((8 * l2) + l3)) ≤ 2147483647 → CX_copyNodes g [mt, mi (2400 + (30 * ((8 * l2) + l3))), mi (8640 + (30 * ((8 * l1) + l3))), mi ((mup T 13 ((8 * l2) + l3) (T 82 ((8 * l1) + l3))) 13 ((8 * l2) + l3))] (mup T 13 ((8 * l2) + l3) (T 82 ((8 * l1) + l3))) (Qv fun S15 => mI S15 → (-2147483648 ≤ ((l3 + 1) : Int) ∧ (l3 + 1) ≤ 2147483647) ∧ (∃ n1, n1 < n ∧ I187 n1 l1 l2 (l3 + 1) S15)))))
    : CX_undo g [mt] S Qp := by
  refine cm_y ⟨by decide, rfl⟩ (by simp [mcat]) (by simp) (fun n pc L st S => (pc = 187 ∧ ∃ (l1 : Int) (l2 : Int) (l3 : Int), L = [some mt, some (mi l1), some (mi l2), some (mi l3)] ∧ st = [] ∧ I187 n l1 l2 l3 S)) ?_ ?_
  · intro ha hS P Y Wk hIc
    have h := hE hS
    clear hE ha h187
    refine y_aload_n 0 Y dX6_undo_0 rfl ?_
    refine y_iconst 1 Y dX6_undo_1 rfl ?_
    refine y_putf 2 Y 0 dX6_undo_2 rfl rfl (fun q => absurd q (by decide)) ?_
    refine y_aload_n 5 Y dX6_undo_5 rfl ?_
    refine y_getf 6 Y 84 dX6_undo_6 rfl rfl (fun _ => ?_)
    refine y_if 9 14 Y dX6_undo_9 rfl rfl (fun c => ?_) (fun c => ?_)
    · replace h := h.1 c
      refine y_aload_n 14 Y dX6_undo_14 rfl ?_
      refine y_dup 15 Y dX6_undo_15 rfl ?_
      refine y_getf 16 Y 84 dX6_undo_16 rfl rfl (fun _ => ?_)
      refine y_iconst 19 Y dX6_undo_19 rfl ?_
      obtain ⟨o1, h⟩ := h
      refine y_isub 20 Y dX6_undo_20 o1 ?_
      refine y_putf 21 Y 84 dX6_undo_21 rfl rfl (fun q => absurd q (by decide)) ?_
      refine y_aload_n 24 Y dX6_undo_24 rfl ?_
      refine y_getf 25 Y 83 dX6_undo_25 rfl rfl (fun _ => ?_)
      refine y_aload_n 28 Y dX6_undo_28 rfl ?_
      refine y_getf 29 Y 84 dX6_undo_29 rfl rfl (fun q => ?_)
      replace h := h q
      obtain ⟨o2, h⟩ := h
      refine y_iadd 32 Y dX6_undo_32 o2 ?_
      refine y_bipush 33 Y dX6_undo_33 rfl ?_
      obtain ⟨o3, h⟩ := h
      refine y_irem 35 Y dX6_undo_35 o3 (by decide) ?_
      refine y_istore_n 36 Y [some mt, some (mi (((S 83 0) + ((mup S 84 0 ((S 84 0) - 1)) 84 0)) % 20)), none, none] dX6_undo_36 rfl rfl ?_
      refine y_aload_n 37 Y dX6_undo_37 rfl ?_
      refine y_geta 38 Y 78 dX6_undo_38 rfl rfl ?_
      refine y_iload_n 41 Y dX6_undo_41 rfl ?_
      obtain ⟨o4, h⟩ := h
      obtain ⟨o5, h⟩ := h
      refine y_iald 42 Y dX6_undo_42 rfl rfl o4 o5 (fun _ => ?_)
      refine y_istore_n 43 Y [some mt, some (mi (((S 83 0) + ((mup S 84 0 ((S 84 0) - 1)) 84 0)) % 20)), some (mi (S 78 (((S 83 0) + ((mup S 84 0 ((S 84 0) - 1)) 84 0)) % 20))), none] dX6_undo_43 rfl rfl ?_
      refine y_aload_n 44 Y dX6_undo_44 rfl ?_
      refine y_geta 45 Y 77 dX6_undo_45 rfl rfl ?_
      refine y_iload_n 48 Y dX6_undo_48 rfl ?_
      refine y_iald 49 Y dX6_undo_49 rfl rfl o4 o5 (fun _ => ?_)
      refine y_table 50 Y dX6_undo_50 rfl (And.intro (fun c => ?_) (And.intro (fun c => ?_) (And.intro (fun c => ?_) trivial))) (fun c => ?_)
      · replace h := h.1 c
        refine y_aload_n 76 Y dX6_undo_76 rfl ?_
        refine y_dup 77 Y dX6_undo_77 rfl ?_
        refine y_getf 78 Y 10 dX6_undo_78 rfl rfl (fun _ => ?_)
        refine y_iconst 81 Y dX6_undo_81 rfl ?_
        obtain ⟨o6, h⟩ := h
        refine y_isub 82 Y dX6_undo_82 o6 ?_
        refine y_putf 83 Y 10 dX6_undo_83 rfl rfl (fun q => absurd q (by decide)) ?_
        refine y_goto 86 262 Y dX6_undo_86 rfl rfl ?_
        refine y_aload_n 262 Y dX6_undo_262 rfl ?_
        refine y_geta 263 Y 77 dX6_undo_263 rfl rfl ?_
        refine y_iload_n 266 Y dX6_undo_266 rfl ?_
        refine y_iald 267 Y dX6_undo_267 rfl rfl o4 o5 (fun _ => ?_)
        exact y_iret 268 Y dX6_undo_268 rfl h
      · replace h := h.2.1 c
        refine y_aload_n 89 Y dX6_undo_89 rfl ?_
        refine y_geta 90 Y 15 dX6_undo_90 rfl rfl ?_
        refine y_iload_n 93 Y dX6_undo_93 rfl ?_
        refine y_aload_n 94 Y dX6_undo_94 rfl ?_
        refine y_geta 95 Y 79 dX6_undo_95 rfl rfl ?_
        refine y_iload_n 98 Y dX6_undo_98 rfl ?_
        refine y_iald 99 Y dX6_undo_99 rfl rfl o4 o5 (fun _ => ?_)
        obtain ⟨o7, h⟩ := h
        obtain ⟨o8, h⟩ := h
        refine y_iast 100 Y dX6_undo_100 rfl rfl o7 o8 ?_
        refine y_aload_n 101 Y dX6_undo_101 rfl ?_
        refine y_geta 102 Y 16 dX6_undo_102 rfl rfl ?_
        refine y_iload_n 105 Y dX6_undo_105 rfl ?_
        refine y_aload_n 106 Y dX6_undo_106 rfl ?_
        refine y_geta 107 Y 80 dX6_undo_107 rfl rfl ?_
        refine y_iload_n 110 Y dX6_undo_110 rfl ?_
        refine y_iald 111 Y dX6_undo_111 rfl rfl o4 o5 (fun _ => ?_)
        refine y_iast 112 Y dX6_undo_112 rfl rfl o7 o8 ?_
        refine y_aload_n 113 Y dX6_undo_113 rfl ?_
        refine y_geta 114 Y 17 dX6_undo_114 rfl rfl ?_
        refine y_iload_n 117 Y dX6_undo_117 rfl ?_
        refine y_aload_n 118 Y dX6_undo_118 rfl ?_
        refine y_geta 119 Y 81 dX6_undo_119 rfl rfl ?_
        refine y_iload_n 122 Y dX6_undo_122 rfl ?_
        refine y_iald 123 Y dX6_undo_123 rfl rfl o4 o5 (fun _ => ?_)
        refine y_iast 124 Y dX6_undo_124 rfl rfl o7 o8 ?_
        refine y_goto 125 262 Y dX6_undo_125 rfl rfl ?_
        refine y_aload_n 262 Y dX6_undo_262 rfl ?_
        refine y_geta 263 Y 77 dX6_undo_263 rfl rfl ?_
        refine y_iload_n 266 Y dX6_undo_266 rfl ?_
        refine y_iald 267 Y dX6_undo_267 rfl rfl o4 o5 (fun _ => ?_)
        exact y_iret 268 Y dX6_undo_268 rfl h
      · replace h := h.2.2.1 c
        refine y_aload_n 128 Y dX6_undo_128 rfl ?_
        refine y_geta 129 Y 47 dX6_undo_129 rfl rfl ?_
        refine y_iload_n 132 Y dX6_undo_132 rfl ?_
        refine y_aload_n 133 Y dX6_undo_133 rfl ?_
        refine y_geta 134 Y 79 dX6_undo_134 rfl rfl ?_
        refine y_iload_n 137 Y dX6_undo_137 rfl ?_
        refine y_iald 138 Y dX6_undo_138 rfl rfl o4 o5 (fun _ => ?_)
        refine y_iconst 139 Y dX6_undo_139 rfl ?_
        refine y_icmp 140 147 Y dX6_undo_140 rfl rfl (fun c => ?_) (fun c => ?_)
        · replace h := h.1 c
          refine y_iconst 147 Y dX6_undo_147 rfl ?_
          obtain ⟨o9, h⟩ := h
          obtain ⟨o10, h⟩ := h
          refine y_bast 148 Y dX6_undo_148 rfl rfl o9 o10 (by decide) ?_
          refine y_aload_n 149 Y dX6_undo_149 rfl ?_
          refine y_iload_n 150 Y dX6_undo_150 rfl ?_
          refine y_bipush 151 Y dX6_undo_151 rfl ?_
          refine y_iload_n 153 Y dX6_undo_153 rfl ?_
          obtain ⟨o11, h⟩ := h
          refine y_iadd 154 Y dX6_undo_154 o11 ?_
          refine y_call 155 Y (as := [mi (S 78 (((S 83 0) + ((mup S 84 0 ((S 84 0) - 1)) 84 0)) % 20)), mi (27 + (((S 83 0) + ((mup S 84 0 ((S 84 0) - 1)) 84 0)) % 20))]) [] dX6_undo_155 rfl rfl rfl rfl rfl h (fun r S12 hq hI _ => ?_)
          obtain ⟨rfl, h⟩ := Qv_ok hq
          replace h := h hI
          clear hq
          refine y_goto 158 262 Y dX6_undo_158 rfl rfl ?_
          refine y_aload_n 262 Y dX6_undo_262 rfl ?_
          refine y_geta 263 Y 77 dX6_undo_263 rfl rfl ?_
          refine y_iload_n 266 Y dX6_undo_266 rfl ?_
          refine y_iald 267 Y dX6_undo_267 rfl rfl o4 o5 (fun _ => ?_)
          exact y_iret 268 Y dX6_undo_268 rfl h
        · replace h := h.2 c
          refine y_iconst 143 Y dX6_undo_143 rfl ?_
          refine y_goto 144 148 Y dX6_undo_144 rfl rfl ?_
          obtain ⟨o13, h⟩ := h
          obtain ⟨o14, h⟩ := h
          refine y_bast 148 Y dX6_undo_148 rfl rfl o13 o14 (by decide) ?_
          refine y_aload_n 149 Y dX6_undo_149 rfl ?_
          refine y_iload_n 150 Y dX6_undo_150 rfl ?_
          refine y_bipush 151 Y dX6_undo_151 rfl ?_
          refine y_iload_n 153 Y dX6_undo_153 rfl ?_
          obtain ⟨o15, h⟩ := h
          refine y_iadd 154 Y dX6_undo_154 o15 ?_
          refine y_call 155 Y (as := [mi (S 78 (((S 83 0) + ((mup S 84 0 ((S 84 0) - 1)) 84 0)) % 20)), mi (27 + (((S 83 0) + ((mup S 84 0 ((S 84 0) - 1)) 84 0)) % 20))]) [] dX6_undo_155 rfl rfl rfl rfl rfl h (fun r S16 hq hI _ => ?_)
          obtain ⟨rfl, h⟩ := Qv_ok hq
          replace h := h hI
          clear hq
          refine y_goto 158 262 Y dX6_undo_158 rfl rfl ?_
          refine y_aload_n 262 Y dX6_undo_262 rfl ?_
          refine y_geta 263 Y 77 dX6_undo_263 rfl rfl ?_
          refine y_iload_n 266 Y dX6_undo_266 rfl ?_
          refine y_iald 267 Y dX6_undo_267 rfl rfl o4 o5 (fun _ => ?_)
          exact y_iret 268 Y dX6_undo_268 rfl h
      · replace h := h.2.2.2 c
        refine y_aload_n 161 Y dX6_undo_161 rfl ?_
        refine y_geta 162 Y 11 dX6_undo_162 rfl rfl ?_
        refine y_iload_n 165 Y dX6_undo_165 rfl ?_
        refine y_aload_n 166 Y dX6_undo_166 rfl ?_
        refine y_geta 167 Y 79 dX6_undo_167 rfl rfl ?_
        refine y_iload_n 170 Y dX6_undo_170 rfl ?_
        refine y_iald 171 Y dX6_undo_171 rfl rfl o4 o5 (fun _ => ?_)
        obtain ⟨o17, h⟩ := h
        obtain ⟨o18, h⟩ := h
        refine y_iast 172 Y dX6_undo_172 rfl rfl o17 o18 ?_
        refine y_aload_n 173 Y dX6_undo_173 rfl ?_
        refine y_geta 174 Y 12 dX6_undo_174 rfl rfl ?_
        refine y_iload_n 177 Y dX6_undo_177 rfl ?_
        refine y_aload_n 178 Y dX6_undo_178 rfl ?_
        refine y_geta 179 Y 80 dX6_undo_179 rfl rfl ?_
        refine y_iload_n 182 Y dX6_undo_182 rfl ?_
        refine y_iald 183 Y dX6_undo_183 rfl rfl o4 o5 (fun _ => ?_)
        refine y_iast 184 Y dX6_undo_184 rfl rfl o17 o18 ?_
        refine y_iconst 185 Y dX6_undo_185 rfl ?_
        refine y_istore_n 186 Y [some mt, some (mi (((S 83 0) + ((mup S 84 0 ((S 84 0) - 1)) 84 0)) % 20)), some (mi (S 78 (((S 83 0) + ((mup S 84 0 ((S 84 0) - 1)) 84 0)) % 20))), some (mi 0)] dX6_undo_186 rfl rfl ?_
        obtain ⟨n1, h⟩ := h
        exact Wk 187 _ [some mt, some (mi (((S 83 0) + ((mup S 84 0 ((S 84 0) - 1)) 84 0)) % 20)), some (mi (S 78 (((S 83 0) + ((mup S 84 0 ((S 84 0) - 1)) 84 0)) % 20))), some (mi 0)] _ _ ⟨rfl, ⟨rfl, ⟨rfl, ⟨rfl, trivial⟩⟩⟩⟩ (hIc n1 _ _ _ _ ((⟨rfl, _, _, _, rfl, rfl, h⟩)))
    · replace h := h.2 c
      refine y_iconst 12 Y dX6_undo_12 rfl ?_
      exact y_iret 13 Y dX6_undo_13 rfl h
  · intro n pc L st T hi hS hL P Y Wk hIc
    clear hE
    rcases hi with ⟨rfl, l1, l2, l3, rfl, rfl, hi⟩
    · have h := h187 n l1 l2 l3 T hS (hL 1 _ rfl) (hL 2 _ rfl) (hL 3 _ rfl) hi
      clear hL hi h187
      refine y_iload_n 187 Y dX6_undo_187 rfl ?_
      refine y_bipush 188 Y dX6_undo_188 rfl ?_
      refine y_icmp 190 262 Y dX6_undo_190 rfl rfl (fun c => ?_) (fun c => ?_)
      · replace h := h.1 c
        refine y_aload_n 262 Y dX6_undo_262 rfl ?_
        refine y_geta 263 Y 77 dX6_undo_263 rfl rfl ?_
        refine y_iload_n 266 Y dX6_undo_266 rfl ?_
        obtain ⟨o1, h⟩ := h
        obtain ⟨o2, h⟩ := h
        refine y_iald 267 Y dX6_undo_267 rfl rfl o1 o2 (fun _ => ?_)
        exact y_iret 268 Y dX6_undo_268 rfl h
      · replace h := h.2 c
        refine y_aload_n 193 Y dX6_undo_193 rfl ?_
        refine y_geta 194 Y 13 dX6_undo_194 rfl rfl ?_
        refine y_bipush 197 Y dX6_undo_197 rfl ?_
        refine y_iload_n 199 Y dX6_undo_199 rfl ?_
        obtain ⟨o3, h⟩ := h
        refine y_imul 200 Y dX6_undo_200 o3 ?_
        refine y_iload_n 201 Y dX6_undo_201 rfl ?_
        obtain ⟨o4, h⟩ := h
        refine y_iadd 202 Y dX6_undo_202 o4 ?_
        refine y_aload_n 203 Y dX6_undo_203 rfl ?_
        refine y_geta 204 Y 82 dX6_undo_204 rfl rfl ?_
        refine y_bipush 207 Y dX6_undo_207 rfl ?_
        refine y_iload_n 209 Y dX6_undo_209 rfl ?_
        obtain ⟨o5, h⟩ := h
        refine y_imul 210 Y dX6_undo_210 o5 ?_
        refine y_iload_n 211 Y dX6_undo_211 rfl ?_
        obtain ⟨o6, h⟩ := h
        refine y_iadd 212 Y dX6_undo_212 o6 ?_
        obtain ⟨o7, h⟩ := h
        obtain ⟨o8, h⟩ := h
        refine y_iald 213 Y dX6_undo_213 rfl rfl o7 o8 (fun _ => ?_)
        obtain ⟨o9, h⟩ := h
        obtain ⟨o10, h⟩ := h
        refine y_iast 214 Y dX6_undo_214 rfl rfl o9 o10 ?_
        refine y_aload_n 215 Y dX6_undo_215 rfl ?_
        refine y_sipush 216 Y dX6_undo_216 rfl ?_
        refine y_bipush 219 Y dX6_undo_219 rfl ?_
        refine y_bipush 221 Y dX6_undo_221 rfl ?_
        refine y_iload_n 223 Y dX6_undo_223 rfl ?_
        refine y_imul 224 Y dX6_undo_224 o3 ?_
        refine y_iload_n 225 Y dX6_undo_225 rfl ?_
        refine y_iadd 226 Y dX6_undo_226 o4 ?_
        obtain ⟨o11, h⟩ := h
        refine y_imul 227 Y dX6_undo_227 o11 ?_
        obtain ⟨o12, h⟩ := h
        refine y_iadd 228 Y dX6_undo_228 o12 ?_
        refine y_sipush 229 Y dX6_undo_229 rfl ?_
        refine y_bipush 232 Y dX6_undo_232 rfl ?_
        refine y_bipush 234 Y dX6_undo_234 rfl ?_
        refine y_iload_n 236 Y dX6_undo_236 rfl ?_
        refine y_imul 237 Y dX6_undo_237 o5 ?_
        refine y_iload_n 238 Y dX6_undo_238 rfl ?_
        refine y_iadd 239 Y dX6_undo_239 o6 ?_
        obtain ⟨o13, h⟩ := h
        refine y_imul 240 Y dX6_undo_240 o13 ?_
        obtain ⟨o14, h⟩ := h
        refine y_iadd 241 Y dX6_undo_241 o14 ?_
        refine y_aload_n 242 Y dX6_undo_242 rfl ?_
        refine y_geta 243 Y 13 dX6_undo_243 rfl rfl ?_
        refine y_bipush 246 Y dX6_undo_246 rfl ?_
        refine y_iload_n 248 Y dX6_undo_248 rfl ?_
        refine y_imul 249 Y dX6_undo_249 o3 ?_
        refine y_iload_n 250 Y dX6_undo_250 rfl ?_
        refine y_iadd 251 Y dX6_undo_251 o4 ?_
        refine y_iald 252 Y dX6_undo_252 rfl rfl o9 o10 (fun q => ?_)
        replace h := h q
        refine y_call 253 Y (as := [mi (2400 + (30 * ((8 * l2) + l3))), mi (8640 + (30 * ((8 * l1) + l3))), mi ((mup T 13 ((8 * l2) + l3) (T 82 ((8 * l1) + l3))) 13 ((8 * l2) + l3))]) [] dX6_undo_253 rfl rfl rfl rfl rfl h (fun r S15 hq hI _ => ?_)
        obtain ⟨rfl, h⟩ := Qv_ok hq
        replace h := h hI
        clear hq
        obtain ⟨o16, h⟩ := h
        refine y_iinc 256 Y [some mt, some (mi l1), some (mi l2), some (mi (l3 + 1))] dX6_undo_256 rfl rfl o16 ?_
        refine y_goto 259 187 Y dX6_undo_259 rfl rfl ?_
        obtain ⟨n1, hn, h⟩ := h
        exact Wk 187 _ [some mt, some (mi l1), some (mi l2), some (mi (l3 + 1))] _ _ ⟨rfl, ⟨rfl, ⟨rfl, ⟨rfl, trivial⟩⟩⟩⟩ (hIc n1 _ _ _ _ hn ((⟨rfl, _, _, _, rfl, rfl, h⟩)))
set_option maxHeartbeats 4000000 in
theorem of_addCase {g : mG} {S : mS} {a1 a2 a3 : Int} {Qp : Option mV → mS → Prop} (I21 : Nat → Int → Int → Int → mS → Prop) (I25 : Nat → Int → Int → Int → mS → Prop) (I28 : Nat → Int → Int → Int → Int → mS → Prop) (I93 : Nat → Int → Int → Int → mS → Prop) (I97 : Nat → Int → Int → Int → mS → Prop) (I100 : Nat → Int → Int → Int → Int → mS → Prop)
    (hE : mI S → (-2147483648 ≤ a1 ∧ a1 ≤ 2147483647) → (-2147483648 ≤ a2 ∧ a2 ≤ 2147483647) → (-2147483648 ≤ a3 ∧ a3 ≤ 2147483647) → CX_isTree g [mt, mi a3] S (Qi fun v2 S1 => mI S1 → (-2147483648 ≤ v2 ∧ v2 ≤ 2147483647) → ((v2 = 0) → (∃ n1, I25 n1 a1 a2 a3 S1)) ∧ (¬ (v2 = 0) → ((a2 = (-1)) → (∃ n1, I21 n1 a1 a2 a3 S1)) ∧ (¬ (a2 = (-1)) → CX_isTree g [mt, mi a2] S1 (Qi fun v4 S3 => mI S3 → (-2147483648 ≤ v4 ∧ v4 ≤ 2147483647) → ((v4 = 0) → (∃ n1, I25 n1 a1 a2 a3 S3)) ∧ (¬ (v4 = 0) → (∃ n1, I21 n1 a1 a2 a3 S3)))))))
    (h21 : ∀ (n : Nat) (l1 l2 l3 : Int) (T : mS), mI T → (-2147483648 ≤ l1 ∧ l1 ≤ 2147483647) → (-2147483648 ≤ l2 ∧ l2 ≤ 2147483647) → (-2147483648 ≤ l3 ∧ l3 ≤ 2147483647) → I21 n l1 l2 l3 T → (∃ n1, n1 < n ∧ I28 n1 l1 l2 l3 1 T))
    (h25 : ∀ (n : Nat) (l1 l2 l3 : Int) (T : mS), mI T → (-2147483648 ≤ l1 ∧ l1 ≤ 2147483647) → (-2147483648 ≤ l2 ∧ l2 ≤ 2147483647) → (-2147483648 ≤ l3 ∧ l3 ≤ 2147483647) → I25 n l1 l2 l3 T → (∃ n1, n1 < n ∧ I28 n1 l1 l2 l3 0 T))
    (h28 : ∀ (n : Nat) (l1 l2 l3 l4 : Int) (T : mS), mI T → (-2147483648 ≤ l1 ∧ l1 ≤ 2147483647) → (-2147483648 ≤ l2 ∧ l2 ≤ 2147483647) → (-2147483648 ≤ l3 ∧ l3 ≤ 2147483647) → (-2147483648 ≤ l4 ∧ l4 ≤ 2147483647) → I28 n l1 l2 l3 l4 T → CX_isName g [mi l1] T (Qi fun v2 S1 => mI S1 → (-2147483648 ≤ v2 ∧ v2 ≤ 2147483647) → ((v2 ≠ 0) → ((l4 ≠ 0) → CX_refused g [mt, mi 0, mi 0, mi 0] S1 (Qi fun v4 S3 => mI S3 → (-2147483648 ≤ v4 ∧ v4 ≤ 2147483647) → ((v4 = 0) → (-2147483648 ≤ ((l1 - 97) : Int) ∧ (l1 - 97) ≤ 2147483647) ∧ (0 ≤ l3) ∧ (l3 < 30) ∧ ((30 < (S3 9 l3)) → (∃ n1, n1 < n ∧ I93 n1 l2 l3 (l1 - 97) S3)) ∧ (¬ (30 < (S3 9 l3)) → ((l2 = (-1)) → (∃ n1, n1 < n ∧ I97 n1 l2 l3 (l1 - 97) S3)) ∧ (¬ (l2 = (-1)) → (0 ≤ l2) ∧ (l2 < 30) ∧ (((S3 9 l2) ≤ 30) → (∃ n1, n1 < n ∧ I97 n1 l2 l3 (l1 - 97) S3)) ∧ (¬ ((S3 9 l2) ≤ 30) → (∃ n1, n1 < n ∧ I93 n1 l2 l3 (l1 - 97) S3))))) ∧ (¬ (v4 = 0) → Qp (some (mi 0)) S3))) ∧ (¬ (l4 ≠ 0) → CX_refused g [mt, mi 0, mi 1, mi 0] S1 (Qi fun v11 S10 => mI S10 → (-2147483648 ≤ v11 ∧ v11 ≤ 2147483647) → ((v11 = 0) → (-2147483648 ≤ ((l1 - 97) : Int) ∧ (l1 - 97) ≤ 2147483647) ∧ (0 ≤ l3) ∧ (l3 < 30) ∧ ((30 < (S10 9 l3)) → (∃ n1, n1 < n ∧ I93 n1 l2 l3 (l1 - 97) S10)) ∧ (¬ (30 < (S10 9 l3)) → ((l2 = (-1)) → (∃ n1, n1 < n ∧ I97 n1 l2 l3 (l1 - 97) S10)) ∧ (¬ (l2 = (-1)) → (0 ≤ l2) ∧ (l2 < 30) ∧ (((S10 9 l2) ≤ 30) → (∃ n1, n1 < n ∧ I97 n1 l2 l3 (l1 - 97) S10)) ∧ (¬ ((S10 9 l2) ≤ 30) → (∃ n1, n1 < n ∧ I93 n1 l2 l3 (l1 - 97) S10))))) ∧ (¬ (v11 = 0) → Qp (some (mi 0)) S10)))) ∧ (¬ (v2 ≠ 0) → ((l4 ≠ 0) → CX_refused g [mt, mi 1, mi 0, mi 0] S1 (Qi fun v18 S17 => mI S17 → (-2147483648 ≤ v18 ∧ v18 ≤ 2147483647) → ((v18 = 0) → (-2147483648 ≤ ((l1 - 97) : Int) ∧ (l1 - 97) ≤ 2147483647) ∧ (0 ≤ l3) ∧ (l3 < 30) ∧ ((30 < (S17 9 l3)) → (∃ n1, n1 < n ∧ I93 n1 l2 l3 (l1 - 97) S17)) ∧ (¬ (30 < (S17 9 l3)) → ((l2 = (-1)) → (∃ n1, n1 < n ∧ I97 n1 l2 l3 (l1 - 97) S17)) ∧ (¬ (l2 = (-1)) → (0 ≤ l2) ∧ (l2 < 30) ∧ (((S17 9 l2) ≤ 30) → (∃ n1, n1 < n ∧ I97 n1 l2 l3 (l1 - 97) S17)) ∧ (¬ ((S17 9 l2) ≤ 30) → (∃ n1, n1 < n ∧ I93 n1 l2 l3 (l1 - 97) S17))))) ∧ (¬ (v18 = 0) → Qp (some (mi 0)) S17))) ∧ (¬ (l4 ≠ 0) → CX_refused g [mt, mi 1, mi 1, mi 0] S1 (Qi fun v25 S24 => mI S24 → (-2147483648 ≤ v25 ∧ v25 ≤ 2147483647) → ((v25 = 0) → (-2147483648 ≤ ((l1 - 97) : Int) ∧ (l1 - 97) ≤ 2147483647) ∧ (0 ≤ l3) ∧ (l3 < 30) ∧ ((30 < (S24 9 l3)) → (∃ n1, n1 < n ∧ I93 n1 l2 l3 (l1 - 97) S24)) ∧ (¬ (30 < (S24 9 l3)) → ((l2 = (-1)) → (∃ n1, n1 < n ∧ I97 n1 l2 l3 (l1 - 97) S24)) ∧ (¬ (l2 = (-1)) → (0 ≤ l2) ∧ (l2 < 30) ∧ (((S24 9 l2) ≤ 30) → (∃ n1, n1 < n ∧ I97 n1 l2 l3 (l1 - 97) S24)) ∧ (¬ ((S24 9 l2) ≤ 30) → (∃ n1, n1 < n ∧ I93 n1 l2 l3 (l1 - 97) S24))))) ∧ (¬ (v25 = 0) → Qp (some (mi 0)) S24))))))
    (h93 : ∀ (n : Nat) (l2 l3 l5 : Int) (T : mS), mI T → (-2147483648 ≤ l2 ∧ l2 ≤ 2147483647) → (-2147483648 ≤ l3 ∧ l3 ≤ 2147483647) → (-2147483648 ≤ l5 ∧ l5 ≤ 2147483647) → I93 n l2 l3 l5 T → (∃ n1, n1 < n ∧ I100 n1 l2 l3 l5 1 T))
    (h97 : ∀ (n : Nat) (l2 l3 l5 : Int) (T : mS), mI T → (-2147483648 ≤ l2 ∧ l2 ≤ 2147483647) → (-2147483648 ≤ l3 ∧ l3 ≤ 2147483647) → (-2147483648 ≤ l5 ∧ l5 ≤ 2147483647) → I97 n l2 l3 l5 T → (∃ n1, n1 < n ∧ I100 n1 l2 l3 l5 0 T))
    (h100 : ∀ (n : Nat) (l2 l3 l5 l6 : Int) (T : mS), mI T → (-2147483648 ≤ l2 ∧ l2 ≤ 2147483647) → (-2147483648 ≤ l3 ∧ l3 ≤ 2147483647) → (-2147483648 ≤ l5 ∧ l5 ≤ 2147483647) → (-2147483648 ≤ l6 ∧ l6 ≤ 2147483647) → I100 n l2 l3 l5 l6 T → (0 ≤ l5) ∧ (l5 < 26) ∧ (((T 11 l5) = 0) → CX_refused g [mt, mi 0, mi 0, mi 1] T (Qi fun v4 S3 => mI S3 → (-2147483648 ≤ v4 ∧ v4 ≤ 2147483647) → ((v4 = 0) → CX_noteFunction g [mt, mi l5] S3 (Qv fun S5 => mI S5 → CX_layCase g [mt, mi l5, mi 0, mi l2] S5 (Qv fun S6 => mI S6 → CX_layCase g [mt, mi l5, mi 1, mi l3] S6 (Qv fun S7 => mI S7 → (-2147483648 ≤ (((S7 12 l5) + 1) : Int) ∧ ((S7 12 l5) + 1) ≤ 2147483647) ∧ (-2147483648 ≤ ((mup S7 12 l5 ((S7 12 l5) + 1)) 12 l5) ∧ ((mup S7 12 l5 ((S7 12 l5) + 1)) 12 l5) ≤ 2147483647 → Qp (some (mi ((mup S7 12 l5 ((S7 12 l5) + 1)) 12 l5))) (mup S7 12 l5 ((S7 12 l5) + 1))))))) ∧ (¬ (v4 = 0) → Qp (some (mi 0)) S3))) ∧ (¬ ((T 11 l5) = 0) → (((T 12 l5) = 4) → CX_refused g [mt, mi 0, mi 0, mi 1] T (Qi fun v10 S9 => mI S9 → (-2147483648 ≤ v10 ∧ v10 ≤ 2147483647) → ((v10 = 0) → CX_noteFunction g [mt, mi l5] S9 (Qv fun S11 => mI S11 → CX_layCase g [mt, mi l5, mi 0, mi l2] S11 (Qv fun S12 => mI S12 → CX_layCase g [mt, mi l5, mi 1, mi l3] S12 (Qv fun S13 => mI S13 → (-2147483648 ≤ (((S13 12 l5) + 1) : Int) ∧ ((S13 12 l5) + 1) ≤ 2147483647) ∧ (-2147483648 ≤ ((mup S13 12 l5 ((S13 12 l5) + 1)) 12 l5) ∧ ((mup S13 12 l5 ((S13 12 l5) + 1)) 12 l5) ≤ 2147483647 → Qp (some (mi ((mup S13 12 l5 ((S13 12 l5) + 1)) 12 l5))) (mup S13 12 l5 ((S13 12 l5) + 1))))))) ∧ (¬ (v10 = 0) → Qp (some (mi 0)) S9))) ∧ (¬ ((T 12 l5) = 4) → ((l6 = 0) → CX_refused g [mt, mi 0, mi 0, mi 0] T (Qi fun v16 S15 => mI S15 → (-2147483648 ≤ v16 ∧ v16 ≤ 2147483647) → ((v16 = 0) → CX_noteFunction g [mt, mi l5] S15 (Qv fun S17 => mI S17 → CX_layCase g [mt, mi l5, mi 0, mi l2] S17 (Qv fun S18 => mI S18 → CX_layCase g [mt, mi l5, mi 1, mi l3] S18 (Qv fun S19 => mI S19 → (-2147483648 ≤ (((S19 12 l5) + 1) : Int) ∧ ((S19 12 l5) + 1) ≤ 2147483647) ∧ (-2147483648 ≤ ((mup S19 12 l5 ((S19 12 l5) + 1)) 12 l5) ∧ ((mup S19 12 l5 ((S19 12 l5) + 1)) 12 l5) ≤ 2147483647 → Qp (some (mi ((mup S19 12 l5 ((S19 12 l5) + 1)) 12 l5))) (mup S19 12 l5 ((S19 12 l5) + 1))))))) ∧ (¬ (v16 = 0) → Qp (some (mi 0)) S15))) ∧ (¬ (l6 = 0) → CX_refused g [mt, mi 0, mi 0, mi 1] T (Qi fun v22 S21 => mI S21 → (-2147483648 ≤ v22 ∧ v22 ≤ 2147483647) → ((v22 = 0) → CX_noteFunction g [mt, mi l5] S21 (Qv fun S23 => mI S23 → CX_layCase g [mt, mi l5, mi 0, mi l2] S23 (Qv fun S24 => mI S24 → CX_layCase g [mt, mi l5, mi 1, mi l3] S24 (Qv fun S25 => mI S25 → (-2147483648 ≤ (((S25 12 l5) + 1) : Int) ∧ ((S25 12 l5) + 1) ≤ 2147483647) ∧ (-2147483648 ≤ ((mup S25 12 l5 ((S25 12 l5) + 1)) 12 l5) ∧ ((mup S25 12 l5 ((S25 12 l5) + 1)) 12 l5) ≤ 2147483647 → Qp (some (mi ((mup S25 12 l5 ((S25 12 l5) + 1)) 12 l5))) (mup S25 12 l5 ((S25 12 l5) + 1))))))) ∧ (¬ (v22 = 0) → Qp (some (mi 0)) S21))))))
    : CX_addCase g [mt, mi a1, mi a2, mi a3] S Qp := by
  refine cm_y ⟨by decide, rfl⟩ (by simp [mcat]) (by simp) (fun n pc L st S => (pc = 21 ∧ ∃ (l1 : Int) (l2 : Int) (l3 : Int), L = [some mt, some (mi l1), some (mi l2), some (mi l3), none, none, none] ∧ st = [] ∧ I21 n l1 l2 l3 S) ∨ (pc = 25 ∧ ∃ (l1 : Int) (l2 : Int) (l3 : Int), L = [some mt, some (mi l1), some (mi l2), some (mi l3), none, none, none] ∧ st = [] ∧ I25 n l1 l2 l3 S) ∨ (pc = 28 ∧ ∃ (l1 : Int) (l2 : Int) (l3 : Int) (l4 : Int), L = [some mt, some (mi l1), some (mi l2), some (mi l3), some (mi l4), none, none] ∧ st = [] ∧ I28 n l1 l2 l3 l4 S) ∨ (pc = 93 ∧ ∃ (l2 : Int) (l3 : Int) (l5 : Int), L = [some mt, none, some (mi l2), some (mi l3), none, some (mi l5), none] ∧ st = [] ∧ I93 n l2 l3 l5 S) ∨ (pc = 97 ∧ ∃ (l2 : Int) (l3 : Int) (l5 : Int), L = [some mt, none, some (mi l2), some (mi l3), none, some (mi l5), none] ∧ st = [] ∧ I97 n l2 l3 l5 S) ∨ (pc = 100 ∧ ∃ (l2 : Int) (l3 : Int) (l5 : Int) (l6 : Int), L = [some mt, none, some (mi l2), some (mi l3), none, some (mi l5), some (mi l6)] ∧ st = [] ∧ I100 n l2 l3 l5 l6 S)) ?_ ?_
  · intro ha hS P Y Wk hIc
    have h := hE hS (mokI (ha (mi a1) (by simp))) (mokI (ha (mi a2) (by simp))) (mokI (ha (mi a3) (by simp)))
    clear hE ha h21 h25 h28 h93 h97 h100
    refine y_aload_n 0 Y dX6_addCase_0 rfl ?_
    refine y_iload_n 1 Y dX6_addCase_1 rfl ?_
    refine y_call 2 Y (as := [mi a3]) [] dX6_addCase_2 rfl rfl rfl rfl rfl h (fun r S1 hq hI hr => ?_)
    obtain ⟨v2, rfl, h⟩ := Qi_ok hq
    replace h := h hI (mokI (hr _ rfl))
    clear hq hr
    refine y_if 5 25 Y dX6_addCase_5 rfl rfl (fun c => ?_) (fun c => ?_)
    · replace h := h.1 c
      obtain ⟨n1, h⟩ := h
      exact Wk 25 _ [some mt, some (mi a1), some (mi a2), some (mi a3), none, none, none] _ _ ⟨rfl, ⟨rfl, ⟨rfl, ⟨rfl, trivial⟩⟩⟩⟩ (hIc n1 _ _ _ _ (Or.inr (Or.inl (⟨rfl, _, _, _, rfl, rfl, h⟩))))
    · replace h := h.2 c
      refine y_iload_n 8 Y dX6_addCase_8 rfl ?_
      refine y_iconst 9 Y dX6_addCase_9 rfl ?_
      refine y_icmp 10 21 Y dX6_addCase_10 rfl rfl (fun c => ?_) (fun c => ?_)
      · replace h := h.1 c
        obtain ⟨n1, h⟩ := h
        exact Wk 21 _ [some mt, some (mi a1), some (mi a2), some (mi a3), none, none, none] _ _ ⟨rfl, ⟨rfl, ⟨rfl, ⟨rfl, trivial⟩⟩⟩⟩ (hIc n1 _ _ _ _ (Or.inl (⟨rfl, _, _, _, rfl, rfl, h⟩)))
      · replace h := h.2 c
        refine y_aload_n 13 Y dX6_addCase_13 rfl ?_
        refine y_iload_n 14 Y dX6_addCase_14 rfl ?_
        refine y_call 15 Y (as := [mi a2]) [] dX6_addCase_15 rfl rfl rfl rfl rfl h (fun r S3 hq hI hr => ?_)
        obtain ⟨v4, rfl, h⟩ := Qi_ok hq
        replace h := h hI (mokI (hr _ rfl))
        clear hq hr
        refine y_if 18 25 Y dX6_addCase_18 rfl rfl (fun c => ?_) (fun c => ?_)
        · replace h := h.1 c
          obtain ⟨n1, h⟩ := h
          exact Wk 25 _ [some mt, some (mi a1), some (mi a2), some (mi a3), none, none, none] _ _ ⟨rfl, ⟨rfl, ⟨rfl, ⟨rfl, trivial⟩⟩⟩⟩ (hIc n1 _ _ _ _ (Or.inr (Or.inl (⟨rfl, _, _, _, rfl, rfl, h⟩))))
        · replace h := h.2 c
          obtain ⟨n1, h⟩ := h
          exact Wk 21 _ [some mt, some (mi a1), some (mi a2), some (mi a3), none, none, none] _ _ ⟨rfl, ⟨rfl, ⟨rfl, ⟨rfl, trivial⟩⟩⟩⟩ (hIc n1 _ _ _ _ (Or.inl (⟨rfl, _, _, _, rfl, rfl, h⟩)))
  · intro n pc L st T hi hS hL P Y Wk hIc
    clear hE
    rcases hi with ⟨rfl, l1, l2, l3, rfl, rfl, hi⟩ | ⟨rfl, l1, l2, l3, rfl, rfl, hi⟩ | ⟨rfl, l1, l2, l3, l4, rfl, rfl, hi⟩ | ⟨rfl, l2, l3, l5, rfl, rfl, hi⟩ | ⟨rfl, l2, l3, l5, rfl, rfl, hi⟩ | ⟨rfl, l2, l3, l5, l6, rfl, rfl, hi⟩
    · have h := h21 n l1 l2 l3 T hS (hL 1 _ rfl) (hL 2 _ rfl) (hL 3 _ rfl) hi
      clear hL hi h21 h25 h28 h93 h97 h100
      refine y_iconst 21 Y dX6_addCase_21 rfl ?_
      refine y_goto 22 26 Y dX6_addCase_22 rfl rfl ?_
      refine y_istore 26 Y [some mt, some (mi l1), some (mi l2), some (mi l3), some (mi 1), none, none] dX6_addCase_26 rfl rfl ?_
      obtain ⟨n1, hn, h⟩ := h
      exact Wk 28 _ [some mt, some (mi l1), some (mi l2), some (mi l3), some (mi 1), none, none] _ _ ⟨rfl, ⟨rfl, ⟨rfl, ⟨rfl, ⟨rfl, trivial⟩⟩⟩⟩⟩ (hIc n1 _ _ _ _ hn (Or.inr (Or.inr (Or.inl (⟨rfl, _, _, _, _, rfl, rfl, h⟩)))))
    · have h := h25 n l1 l2 l3 T hS (hL 1 _ rfl) (hL 2 _ rfl) (hL 3 _ rfl) hi
      clear hL hi h21 h25 h28 h93 h97 h100
      refine y_iconst 25 Y dX6_addCase_25 rfl ?_
      refine y_istore 26 Y [some mt, some (mi l1), some (mi l2), some (mi l3), some (mi 0), none, none] dX6_addCase_26 rfl rfl ?_
      obtain ⟨n1, hn, h⟩ := h
      exact Wk 28 _ [some mt, some (mi l1), some (mi l2), some (mi l3), some (mi 0), none, none] _ _ ⟨rfl, ⟨rfl, ⟨rfl, ⟨rfl, ⟨rfl, trivial⟩⟩⟩⟩⟩ (hIc n1 _ _ _ _ hn (Or.inr (Or.inr (Or.inl (⟨rfl, _, _, _, _, rfl, rfl, h⟩)))))
    · have h := h28 n l1 l2 l3 l4 T hS (hL 1 _ rfl) (hL 2 _ rfl) (hL 3 _ rfl) (hL 4 _ rfl) hi
      clear hL hi h21 h25 h28 h93 h97 h100
      refine y_aload_n 28 Y dX6_addCase_28 rfl ?_
      refine y_iload_n 29 Y dX6_addCase_29 rfl ?_
      refine y_calls 30 Y (as := [mi l1]) [mt] dX6_addCase_30 rfl rfl rfl rfl rfl h (fun r S1 hq hI hr => ?_)
      obtain ⟨v2, rfl, h⟩ := Qi_ok hq
      replace h := h hI (mokI (hr _ rfl))
      clear hq hr
      refine y_if 33 40 Y dX6_addCase_33 rfl rfl (fun c => ?_) (fun c => ?_)
      · replace h := h.1 c
        refine y_iconst 40 Y dX6_addCase_40 rfl ?_
        refine y_iload 41 Y dX6_addCase_41 rfl ?_
        refine y_if 43 50 Y dX6_addCase_43 rfl rfl (fun c => ?_) (fun c => ?_)
        · replace h := h.1 c
          refine y_iconst 50 Y dX6_addCase_50 rfl ?_
          refine y_iconst 51 Y dX6_addCase_51 rfl ?_
          refine y_call 52 Y (as := [mi 0, mi 0, mi 0]) [] dX6_addCase_52 rfl rfl rfl rfl rfl h (fun r S3 hq hI hr => ?_)
          obtain ⟨v4, rfl, h⟩ := Qi_ok hq
          replace h := h hI (mokI (hr _ rfl))
          clear hq hr
          refine y_if 55 60 Y dX6_addCase_55 rfl rfl (fun c => ?_) (fun c => ?_)
          · replace h := h.1 c
            refine y_iload_n 60 Y dX6_addCase_60 rfl ?_
            refine y_bipush 61 Y dX6_addCase_61 rfl ?_
            obtain ⟨o5, h⟩ := h
            refine y_isub 63 Y dX6_addCase_63 o5 ?_
            refine y_istore 64 Y [some mt, some (mi l1), some (mi l2), some (mi l3), some (mi l4), some (mi (l1 - 97)), none] dX6_addCase_64 rfl rfl ?_
            refine y_aload_n 66 Y dX6_addCase_66 rfl ?_
            refine y_geta 67 Y 9 dX6_addCase_67 rfl rfl ?_
            refine y_iload_n 70 Y dX6_addCase_70 rfl ?_
            obtain ⟨o6, h⟩ := h
            obtain ⟨o7, h⟩ := h
            refine y_iald 71 Y dX6_addCase_71 rfl rfl o6 o7 (fun _ => ?_)
            refine y_bipush 72 Y dX6_addCase_72 rfl ?_
            refine y_icmp 74 93 Y dX6_addCase_74 rfl rfl (fun c => ?_) (fun c => ?_)
            · replace h := h.1 c
              obtain ⟨n1, hn, h⟩ := h
              exact Wk 93 _ [some mt, none, some (mi l2), some (mi l3), none, some (mi (l1 - 97)), none] _ _ ⟨rfl, ⟨rfl, ⟨rfl, ⟨rfl, trivial⟩⟩⟩⟩ (hIc n1 _ _ _ _ hn (Or.inr (Or.inr (Or.inr (Or.inl (⟨rfl, _, _, _, rfl, rfl, h⟩))))))
            · replace h := h.2 c
              refine y_iload_n 77 Y dX6_addCase_77 rfl ?_
              refine y_iconst 78 Y dX6_addCase_78 rfl ?_
              refine y_icmp 79 97 Y dX6_addCase_79 rfl rfl (fun c => ?_) (fun c => ?_)
              · replace h := h.1 c
                obtain ⟨n1, hn, h⟩ := h
                exact Wk 97 _ [some mt, none, some (mi l2), some (mi l3), none, some (mi (l1 - 97)), none] _ _ ⟨rfl, ⟨rfl, ⟨rfl, ⟨rfl, trivial⟩⟩⟩⟩ (hIc n1 _ _ _ _ hn (Or.inr (Or.inr (Or.inr (Or.inr (Or.inl (⟨rfl, _, _, _, rfl, rfl, h⟩)))))))
              · replace h := h.2 c
                refine y_aload_n 82 Y dX6_addCase_82 rfl ?_
                refine y_geta 83 Y 9 dX6_addCase_83 rfl rfl ?_
                refine y_iload_n 86 Y dX6_addCase_86 rfl ?_
                obtain ⟨o8, h⟩ := h
                obtain ⟨o9, h⟩ := h
                refine y_iald 87 Y dX6_addCase_87 rfl rfl o8 o9 (fun _ => ?_)
                refine y_bipush 88 Y dX6_addCase_88 rfl ?_
                refine y_icmp 90 97 Y dX6_addCase_90 rfl rfl (fun c => ?_) (fun c => ?_)
                · replace h := h.1 c
                  obtain ⟨n1, hn, h⟩ := h
                  exact Wk 97 _ [some mt, none, some (mi l2), some (mi l3), none, some (mi (l1 - 97)), none] _ _ ⟨rfl, ⟨rfl, ⟨rfl, ⟨rfl, trivial⟩⟩⟩⟩ (hIc n1 _ _ _ _ hn (Or.inr (Or.inr (Or.inr (Or.inr (Or.inl (⟨rfl, _, _, _, rfl, rfl, h⟩)))))))
                · replace h := h.2 c
                  obtain ⟨n1, hn, h⟩ := h
                  exact Wk 93 _ [some mt, none, some (mi l2), some (mi l3), none, some (mi (l1 - 97)), none] _ _ ⟨rfl, ⟨rfl, ⟨rfl, ⟨rfl, trivial⟩⟩⟩⟩ (hIc n1 _ _ _ _ hn (Or.inr (Or.inr (Or.inr (Or.inl (⟨rfl, _, _, _, rfl, rfl, h⟩))))))
          · replace h := h.2 c
            refine y_iconst 58 Y dX6_addCase_58 rfl ?_
            exact y_iret 59 Y dX6_addCase_59 rfl h
        · replace h := h.2 c
          refine y_iconst 46 Y dX6_addCase_46 rfl ?_
          refine y_goto 47 51 Y dX6_addCase_47 rfl rfl ?_
          refine y_iconst 51 Y dX6_addCase_51 rfl ?_
          refine y_call 52 Y (as := [mi 0, mi 1, mi 0]) [] dX6_addCase_52 rfl rfl rfl rfl rfl h (fun r S10 hq hI hr => ?_)
          obtain ⟨v11, rfl, h⟩ := Qi_ok hq
          replace h := h hI (mokI (hr _ rfl))
          clear hq hr
          refine y_if 55 60 Y dX6_addCase_55 rfl rfl (fun c => ?_) (fun c => ?_)
          · replace h := h.1 c
            refine y_iload_n 60 Y dX6_addCase_60 rfl ?_
            refine y_bipush 61 Y dX6_addCase_61 rfl ?_
            obtain ⟨o12, h⟩ := h
            refine y_isub 63 Y dX6_addCase_63 o12 ?_
            refine y_istore 64 Y [some mt, some (mi l1), some (mi l2), some (mi l3), some (mi l4), some (mi (l1 - 97)), none] dX6_addCase_64 rfl rfl ?_
            refine y_aload_n 66 Y dX6_addCase_66 rfl ?_
            refine y_geta 67 Y 9 dX6_addCase_67 rfl rfl ?_
            refine y_iload_n 70 Y dX6_addCase_70 rfl ?_
            obtain ⟨o13, h⟩ := h
            obtain ⟨o14, h⟩ := h
            refine y_iald 71 Y dX6_addCase_71 rfl rfl o13 o14 (fun _ => ?_)
            refine y_bipush 72 Y dX6_addCase_72 rfl ?_
            refine y_icmp 74 93 Y dX6_addCase_74 rfl rfl (fun c => ?_) (fun c => ?_)
            · replace h := h.1 c
              obtain ⟨n1, hn, h⟩ := h
              exact Wk 93 _ [some mt, none, some (mi l2), some (mi l3), none, some (mi (l1 - 97)), none] _ _ ⟨rfl, ⟨rfl, ⟨rfl, ⟨rfl, trivial⟩⟩⟩⟩ (hIc n1 _ _ _ _ hn (Or.inr (Or.inr (Or.inr (Or.inl (⟨rfl, _, _, _, rfl, rfl, h⟩))))))
            · replace h := h.2 c
              refine y_iload_n 77 Y dX6_addCase_77 rfl ?_
              refine y_iconst 78 Y dX6_addCase_78 rfl ?_
              refine y_icmp 79 97 Y dX6_addCase_79 rfl rfl (fun c => ?_) (fun c => ?_)
              · replace h := h.1 c
                obtain ⟨n1, hn, h⟩ := h
                exact Wk 97 _ [some mt, none, some (mi l2), some (mi l3), none, some (mi (l1 - 97)), none] _ _ ⟨rfl, ⟨rfl, ⟨rfl, ⟨rfl, trivial⟩⟩⟩⟩ (hIc n1 _ _ _ _ hn (Or.inr (Or.inr (Or.inr (Or.inr (Or.inl (⟨rfl, _, _, _, rfl, rfl, h⟩)))))))
              · replace h := h.2 c
                refine y_aload_n 82 Y dX6_addCase_82 rfl ?_
                refine y_geta 83 Y 9 dX6_addCase_83 rfl rfl ?_
                refine y_iload_n 86 Y dX6_addCase_86 rfl ?_
                obtain ⟨o15, h⟩ := h
                obtain ⟨o16, h⟩ := h
                refine y_iald 87 Y dX6_addCase_87 rfl rfl o15 o16 (fun _ => ?_)
                refine y_bipush 88 Y dX6_addCase_88 rfl ?_
                refine y_icmp 90 97 Y dX6_addCase_90 rfl rfl (fun c => ?_) (fun c => ?_)
                · replace h := h.1 c
                  obtain ⟨n1, hn, h⟩ := h
                  exact Wk 97 _ [some mt, none, some (mi l2), some (mi l3), none, some (mi (l1 - 97)), none] _ _ ⟨rfl, ⟨rfl, ⟨rfl, ⟨rfl, trivial⟩⟩⟩⟩ (hIc n1 _ _ _ _ hn (Or.inr (Or.inr (Or.inr (Or.inr (Or.inl (⟨rfl, _, _, _, rfl, rfl, h⟩)))))))
                · replace h := h.2 c
                  obtain ⟨n1, hn, h⟩ := h
                  exact Wk 93 _ [some mt, none, some (mi l2), some (mi l3), none, some (mi (l1 - 97)), none] _ _ ⟨rfl, ⟨rfl, ⟨rfl, ⟨rfl, trivial⟩⟩⟩⟩ (hIc n1 _ _ _ _ hn (Or.inr (Or.inr (Or.inr (Or.inl (⟨rfl, _, _, _, rfl, rfl, h⟩))))))
          · replace h := h.2 c
            refine y_iconst 58 Y dX6_addCase_58 rfl ?_
            exact y_iret 59 Y dX6_addCase_59 rfl h
      · replace h := h.2 c
        refine y_iconst 36 Y dX6_addCase_36 rfl ?_
        refine y_goto 37 41 Y dX6_addCase_37 rfl rfl ?_
        refine y_iload 41 Y dX6_addCase_41 rfl ?_
        refine y_if 43 50 Y dX6_addCase_43 rfl rfl (fun c => ?_) (fun c => ?_)
        · replace h := h.1 c
          refine y_iconst 50 Y dX6_addCase_50 rfl ?_
          refine y_iconst 51 Y dX6_addCase_51 rfl ?_
          refine y_call 52 Y (as := [mi 1, mi 0, mi 0]) [] dX6_addCase_52 rfl rfl rfl rfl rfl h (fun r S17 hq hI hr => ?_)
          obtain ⟨v18, rfl, h⟩ := Qi_ok hq
          replace h := h hI (mokI (hr _ rfl))
          clear hq hr
          refine y_if 55 60 Y dX6_addCase_55 rfl rfl (fun c => ?_) (fun c => ?_)
          · replace h := h.1 c
            refine y_iload_n 60 Y dX6_addCase_60 rfl ?_
            refine y_bipush 61 Y dX6_addCase_61 rfl ?_
            obtain ⟨o19, h⟩ := h
            refine y_isub 63 Y dX6_addCase_63 o19 ?_
            refine y_istore 64 Y [some mt, some (mi l1), some (mi l2), some (mi l3), some (mi l4), some (mi (l1 - 97)), none] dX6_addCase_64 rfl rfl ?_
            refine y_aload_n 66 Y dX6_addCase_66 rfl ?_
            refine y_geta 67 Y 9 dX6_addCase_67 rfl rfl ?_
            refine y_iload_n 70 Y dX6_addCase_70 rfl ?_
            obtain ⟨o20, h⟩ := h
            obtain ⟨o21, h⟩ := h
            refine y_iald 71 Y dX6_addCase_71 rfl rfl o20 o21 (fun _ => ?_)
            refine y_bipush 72 Y dX6_addCase_72 rfl ?_
            refine y_icmp 74 93 Y dX6_addCase_74 rfl rfl (fun c => ?_) (fun c => ?_)
            · replace h := h.1 c
              obtain ⟨n1, hn, h⟩ := h
              exact Wk 93 _ [some mt, none, some (mi l2), some (mi l3), none, some (mi (l1 - 97)), none] _ _ ⟨rfl, ⟨rfl, ⟨rfl, ⟨rfl, trivial⟩⟩⟩⟩ (hIc n1 _ _ _ _ hn (Or.inr (Or.inr (Or.inr (Or.inl (⟨rfl, _, _, _, rfl, rfl, h⟩))))))
            · replace h := h.2 c
              refine y_iload_n 77 Y dX6_addCase_77 rfl ?_
              refine y_iconst 78 Y dX6_addCase_78 rfl ?_
              refine y_icmp 79 97 Y dX6_addCase_79 rfl rfl (fun c => ?_) (fun c => ?_)
              · replace h := h.1 c
                obtain ⟨n1, hn, h⟩ := h
                exact Wk 97 _ [some mt, none, some (mi l2), some (mi l3), none, some (mi (l1 - 97)), none] _ _ ⟨rfl, ⟨rfl, ⟨rfl, ⟨rfl, trivial⟩⟩⟩⟩ (hIc n1 _ _ _ _ hn (Or.inr (Or.inr (Or.inr (Or.inr (Or.inl (⟨rfl, _, _, _, rfl, rfl, h⟩)))))))
              · replace h := h.2 c
                refine y_aload_n 82 Y dX6_addCase_82 rfl ?_
                refine y_geta 83 Y 9 dX6_addCase_83 rfl rfl ?_
                refine y_iload_n 86 Y dX6_addCase_86 rfl ?_
                obtain ⟨o22, h⟩ := h
                obtain ⟨o23, h⟩ := h
                refine y_iald 87 Y dX6_addCase_87 rfl rfl o22 o23 (fun _ => ?_)
                refine y_bipush 88 Y dX6_addCase_88 rfl ?_
                refine y_icmp 90 97 Y dX6_addCase_90 rfl rfl (fun c => ?_) (fun c => ?_)
                · replace h := h.1 c
                  obtain ⟨n1, hn, h⟩ := h
                  exact Wk 97 _ [some mt, none, some (mi l2), some (mi l3), none, some (mi (l1 - 97)), none] _ _ ⟨rfl, ⟨rfl, ⟨rfl, ⟨rfl, trivial⟩⟩⟩⟩ (hIc n1 _ _ _ _ hn (Or.inr (Or.inr (Or.inr (Or.inr (Or.inl (⟨rfl, _, _, _, rfl, rfl, h⟩)))))))
                · replace h := h.2 c
                  obtain ⟨n1, hn, h⟩ := h
                  exact Wk 93 _ [some mt, none, some (mi l2), some (mi l3), none, some (mi (l1 - 97)), none] _ _ ⟨rfl, ⟨rfl, ⟨rfl, ⟨rfl, trivial⟩⟩⟩⟩ (hIc n1 _ _ _ _ hn (Or.inr (Or.inr (Or.inr (Or.inl (⟨rfl, _, _, _, rfl, rfl, h⟩))))))
          · replace h := h.2 c
            refine y_iconst 58 Y dX6_addCase_58 rfl ?_
            exact y_iret 59 Y dX6_addCase_59 rfl h
        · replace h := h.2 c
          refine y_iconst 46 Y dX6_addCase_46 rfl ?_
          refine y_goto 47 51 Y dX6_addCase_47 rfl rfl ?_
          refine y_iconst 51 Y dX6_addCase_51 rfl ?_
          refine y_call 52 Y (as := [mi 1, mi 1, mi 0]) [] dX6_addCase_52 rfl rfl rfl rfl rfl h (fun r S24 hq hI hr => ?_)
          obtain ⟨v25, rfl, h⟩ := Qi_ok hq
          replace h := h hI (mokI (hr _ rfl))
          clear hq hr
          refine y_if 55 60 Y dX6_addCase_55 rfl rfl (fun c => ?_) (fun c => ?_)
          · replace h := h.1 c
            refine y_iload_n 60 Y dX6_addCase_60 rfl ?_
            refine y_bipush 61 Y dX6_addCase_61 rfl ?_
            obtain ⟨o26, h⟩ := h
            refine y_isub 63 Y dX6_addCase_63 o26 ?_
            refine y_istore 64 Y [some mt, some (mi l1), some (mi l2), some (mi l3), some (mi l4), some (mi (l1 - 97)), none] dX6_addCase_64 rfl rfl ?_
            refine y_aload_n 66 Y dX6_addCase_66 rfl ?_
            refine y_geta 67 Y 9 dX6_addCase_67 rfl rfl ?_
            refine y_iload_n 70 Y dX6_addCase_70 rfl ?_
            obtain ⟨o27, h⟩ := h
            obtain ⟨o28, h⟩ := h
            refine y_iald 71 Y dX6_addCase_71 rfl rfl o27 o28 (fun _ => ?_)
            refine y_bipush 72 Y dX6_addCase_72 rfl ?_
            refine y_icmp 74 93 Y dX6_addCase_74 rfl rfl (fun c => ?_) (fun c => ?_)
            · replace h := h.1 c
              obtain ⟨n1, hn, h⟩ := h
              exact Wk 93 _ [some mt, none, some (mi l2), some (mi l3), none, some (mi (l1 - 97)), none] _ _ ⟨rfl, ⟨rfl, ⟨rfl, ⟨rfl, trivial⟩⟩⟩⟩ (hIc n1 _ _ _ _ hn (Or.inr (Or.inr (Or.inr (Or.inl (⟨rfl, _, _, _, rfl, rfl, h⟩))))))
            · replace h := h.2 c
              refine y_iload_n 77 Y dX6_addCase_77 rfl ?_
              refine y_iconst 78 Y dX6_addCase_78 rfl ?_
              refine y_icmp 79 97 Y dX6_addCase_79 rfl rfl (fun c => ?_) (fun c => ?_)
              · replace h := h.1 c
                obtain ⟨n1, hn, h⟩ := h
                exact Wk 97 _ [some mt, none, some (mi l2), some (mi l3), none, some (mi (l1 - 97)), none] _ _ ⟨rfl, ⟨rfl, ⟨rfl, ⟨rfl, trivial⟩⟩⟩⟩ (hIc n1 _ _ _ _ hn (Or.inr (Or.inr (Or.inr (Or.inr (Or.inl (⟨rfl, _, _, _, rfl, rfl, h⟩)))))))
              · replace h := h.2 c
                refine y_aload_n 82 Y dX6_addCase_82 rfl ?_
                refine y_geta 83 Y 9 dX6_addCase_83 rfl rfl ?_
                refine y_iload_n 86 Y dX6_addCase_86 rfl ?_
                obtain ⟨o29, h⟩ := h
                obtain ⟨o30, h⟩ := h
                refine y_iald 87 Y dX6_addCase_87 rfl rfl o29 o30 (fun _ => ?_)
                refine y_bipush 88 Y dX6_addCase_88 rfl ?_
                refine y_icmp 90 97 Y dX6_addCase_90 rfl rfl (fun c => ?_) (fun c => ?_)
                · replace h := h.1 c
                  obtain ⟨n1, hn, h⟩ := h
                  exact Wk 97 _ [some mt, none, some (mi l2), some (mi l3), none, some (mi (l1 - 97)), none] _ _ ⟨rfl, ⟨rfl, ⟨rfl, ⟨rfl, trivial⟩⟩⟩⟩ (hIc n1 _ _ _ _ hn (Or.inr (Or.inr (Or.inr (Or.inr (Or.inl (⟨rfl, _, _, _, rfl, rfl, h⟩)))))))
                · replace h := h.2 c
                  obtain ⟨n1, hn, h⟩ := h
                  exact Wk 93 _ [some mt, none, some (mi l2), some (mi l3), none, some (mi (l1 - 97)), none] _ _ ⟨rfl, ⟨rfl, ⟨rfl, ⟨rfl, trivial⟩⟩⟩⟩ (hIc n1 _ _ _ _ hn (Or.inr (Or.inr (Or.inr (Or.inl (⟨rfl, _, _, _, rfl, rfl, h⟩))))))
          · replace h := h.2 c
            refine y_iconst 58 Y dX6_addCase_58 rfl ?_
            exact y_iret 59 Y dX6_addCase_59 rfl h
    · have h := h93 n l2 l3 l5 T hS (hL 2 _ rfl) (hL 3 _ rfl) (hL 5 _ rfl) hi
      clear hL hi h21 h25 h28 h93 h97 h100
      refine y_iconst 93 Y dX6_addCase_93 rfl ?_
      refine y_goto 94 98 Y dX6_addCase_94 rfl rfl ?_
      refine y_istore 98 Y [some mt, none, some (mi l2), some (mi l3), none, some (mi l5), some (mi 1)] dX6_addCase_98 rfl rfl ?_
      obtain ⟨n1, hn, h⟩ := h
      exact Wk 100 _ [some mt, none, some (mi l2), some (mi l3), none, some (mi l5), some (mi 1)] _ _ ⟨rfl, ⟨rfl, ⟨rfl, ⟨rfl, ⟨rfl, trivial⟩⟩⟩⟩⟩ (hIc n1 _ _ _ _ hn (Or.inr (Or.inr (Or.inr (Or.inr (Or.inr ((⟨rfl, _, _, _, _, rfl, rfl, h⟩))))))))
    · have h := h97 n l2 l3 l5 T hS (hL 2 _ rfl) (hL 3 _ rfl) (hL 5 _ rfl) hi
      clear hL hi h21 h25 h28 h93 h97 h100
      refine y_iconst 97 Y dX6_addCase_97 rfl ?_
      refine y_istore 98 Y [some mt, none, some (mi l2), some (mi l3), none, some (mi l5), some (mi 0)] dX6_addCase_98 rfl rfl ?_
      obtain ⟨n1, hn, h⟩ := h
      exact Wk 100 _ [some mt, none, some (mi l2), some (mi l3), none, some (mi l5), some (mi 0)] _ _ ⟨rfl, ⟨rfl, ⟨rfl, ⟨rfl, ⟨rfl, trivial⟩⟩⟩⟩⟩ (hIc n1 _ _ _ _ hn (Or.inr (Or.inr (Or.inr (Or.inr (Or.inr ((⟨rfl, _, _, _, _, rfl, rfl, h⟩))))))))
    · have h := h100 n l2 l3 l5 l6 T hS (hL 2 _ rfl) (hL 3 _ rfl) (hL 5 _ rfl) (hL 6 _ rfl) hi
      clear hL hi h21 h25 h28 h93 h97 h100
      refine y_aload_n 100 Y dX6_addCase_100 rfl ?_
      refine y_iconst 101 Y dX6_addCase_101 rfl ?_
      refine y_iconst 102 Y dX6_addCase_102 rfl ?_
      refine y_aload_n 103 Y dX6_addCase_103 rfl ?_
      refine y_geta 104 Y 11 dX6_addCase_104 rfl rfl ?_
      refine y_iload 107 Y dX6_addCase_107 rfl ?_
      obtain ⟨o1, h⟩ := h
      obtain ⟨o2, h⟩ := h
      refine y_iald 109 Y dX6_addCase_109 rfl rfl o1 o2 (fun _ => ?_)
      refine y_if 110 129 Y dX6_addCase_110 rfl rfl (fun c => ?_) (fun c => ?_)
      · replace h := h.1 c
        refine y_iconst 129 Y dX6_addCase_129 rfl ?_
        refine y_goto 130 134 Y dX6_addCase_130 rfl rfl ?_
        refine y_call 134 Y (as := [mi 0, mi 0, mi 1]) [] dX6_addCase_134 rfl rfl rfl rfl rfl h (fun r S3 hq hI hr => ?_)
        obtain ⟨v4, rfl, h⟩ := Qi_ok hq
        replace h := h hI (mokI (hr _ rfl))
        clear hq hr
        refine y_if 137 142 Y dX6_addCase_137 rfl rfl (fun c => ?_) (fun c => ?_)
        · replace h := h.1 c
          refine y_aload_n 142 Y dX6_addCase_142 rfl ?_
          refine y_iload 143 Y dX6_addCase_143 rfl ?_
          refine y_call 145 Y (as := [mi l5]) [] dX6_addCase_145 rfl rfl rfl rfl rfl h (fun r S5 hq hI _ => ?_)
          obtain ⟨rfl, h⟩ := Qv_ok hq
          replace h := h hI
          clear hq
          refine y_aload_n 148 Y dX6_addCase_148 rfl ?_
          refine y_iload 149 Y dX6_addCase_149 rfl ?_
          refine y_iconst 151 Y dX6_addCase_151 rfl ?_
          refine y_iload_n 152 Y dX6_addCase_152 rfl ?_
          refine y_call 153 Y (as := [mi l5, mi 0, mi l2]) [] dX6_addCase_153 rfl rfl rfl rfl rfl h (fun r S6 hq hI _ => ?_)
          obtain ⟨rfl, h⟩ := Qv_ok hq
          replace h := h hI
          clear hq
          refine y_aload_n 156 Y dX6_addCase_156 rfl ?_
          refine y_iload 157 Y dX6_addCase_157 rfl ?_
          refine y_iconst 159 Y dX6_addCase_159 rfl ?_
          refine y_iload_n 160 Y dX6_addCase_160 rfl ?_
          refine y_call 161 Y (as := [mi l5, mi 1, mi l3]) [] dX6_addCase_161 rfl rfl rfl rfl rfl h (fun r S7 hq hI _ => ?_)
          obtain ⟨rfl, h⟩ := Qv_ok hq
          replace h := h hI
          clear hq
          refine y_aload_n 164 Y dX6_addCase_164 rfl ?_
          refine y_geta 165 Y 12 dX6_addCase_165 rfl rfl ?_
          refine y_iload 168 Y dX6_addCase_168 rfl ?_
          refine y_dup2 170 Y dX6_addCase_170 rfl rfl ?_
          refine y_iald 171 Y dX6_addCase_171 rfl rfl o1 o2 (fun _ => ?_)
          refine y_iconst 172 Y dX6_addCase_172 rfl ?_
          obtain ⟨o8, h⟩ := h
          refine y_iadd 173 Y dX6_addCase_173 o8 ?_
          refine y_iast 174 Y dX6_addCase_174 rfl rfl o1 o2 ?_
          refine y_aload_n 175 Y dX6_addCase_175 rfl ?_
          refine y_geta 176 Y 12 dX6_addCase_176 rfl rfl ?_
          refine y_iload 179 Y dX6_addCase_179 rfl ?_
          refine y_iald 181 Y dX6_addCase_181 rfl rfl o1 o2 (fun q => ?_)
          replace h := h q
          exact y_iret 182 Y dX6_addCase_182 rfl h
        · replace h := h.2 c
          refine y_iconst 140 Y dX6_addCase_140 rfl ?_
          exact y_iret 141 Y dX6_addCase_141 rfl h
      · replace h := h.2 c
        refine y_aload_n 113 Y dX6_addCase_113 rfl ?_
        refine y_geta 114 Y 12 dX6_addCase_114 rfl rfl ?_
        refine y_iload 117 Y dX6_addCase_117 rfl ?_
        refine y_iald 119 Y dX6_addCase_119 rfl rfl o1 o2 (fun _ => ?_)
        refine y_iconst 120 Y dX6_addCase_120 rfl ?_
        refine y_icmp 121 129 Y dX6_addCase_121 rfl rfl (fun c => ?_) (fun c => ?_)
        · replace h := h.1 c
          refine y_iconst 129 Y dX6_addCase_129 rfl ?_
          refine y_goto 130 134 Y dX6_addCase_130 rfl rfl ?_
          refine y_call 134 Y (as := [mi 0, mi 0, mi 1]) [] dX6_addCase_134 rfl rfl rfl rfl rfl h (fun r S9 hq hI hr => ?_)
          obtain ⟨v10, rfl, h⟩ := Qi_ok hq
          replace h := h hI (mokI (hr _ rfl))
          clear hq hr
          refine y_if 137 142 Y dX6_addCase_137 rfl rfl (fun c => ?_) (fun c => ?_)
          · replace h := h.1 c
            refine y_aload_n 142 Y dX6_addCase_142 rfl ?_
            refine y_iload 143 Y dX6_addCase_143 rfl ?_
            refine y_call 145 Y (as := [mi l5]) [] dX6_addCase_145 rfl rfl rfl rfl rfl h (fun r S11 hq hI _ => ?_)
            obtain ⟨rfl, h⟩ := Qv_ok hq
            replace h := h hI
            clear hq
            refine y_aload_n 148 Y dX6_addCase_148 rfl ?_
            refine y_iload 149 Y dX6_addCase_149 rfl ?_
            refine y_iconst 151 Y dX6_addCase_151 rfl ?_
            refine y_iload_n 152 Y dX6_addCase_152 rfl ?_
            refine y_call 153 Y (as := [mi l5, mi 0, mi l2]) [] dX6_addCase_153 rfl rfl rfl rfl rfl h (fun r S12 hq hI _ => ?_)
            obtain ⟨rfl, h⟩ := Qv_ok hq
            replace h := h hI
            clear hq
            refine y_aload_n 156 Y dX6_addCase_156 rfl ?_
            refine y_iload 157 Y dX6_addCase_157 rfl ?_
            refine y_iconst 159 Y dX6_addCase_159 rfl ?_
            refine y_iload_n 160 Y dX6_addCase_160 rfl ?_
            refine y_call 161 Y (as := [mi l5, mi 1, mi l3]) [] dX6_addCase_161 rfl rfl rfl rfl rfl h (fun r S13 hq hI _ => ?_)
            obtain ⟨rfl, h⟩ := Qv_ok hq
            replace h := h hI
            clear hq
            refine y_aload_n 164 Y dX6_addCase_164 rfl ?_
            refine y_geta 165 Y 12 dX6_addCase_165 rfl rfl ?_
            refine y_iload 168 Y dX6_addCase_168 rfl ?_
            refine y_dup2 170 Y dX6_addCase_170 rfl rfl ?_
            refine y_iald 171 Y dX6_addCase_171 rfl rfl o1 o2 (fun _ => ?_)
            refine y_iconst 172 Y dX6_addCase_172 rfl ?_
            obtain ⟨o14, h⟩ := h
            refine y_iadd 173 Y dX6_addCase_173 o14 ?_
            refine y_iast 174 Y dX6_addCase_174 rfl rfl o1 o2 ?_
            refine y_aload_n 175 Y dX6_addCase_175 rfl ?_
            refine y_geta 176 Y 12 dX6_addCase_176 rfl rfl ?_
            refine y_iload 179 Y dX6_addCase_179 rfl ?_
            refine y_iald 181 Y dX6_addCase_181 rfl rfl o1 o2 (fun q => ?_)
            replace h := h q
            exact y_iret 182 Y dX6_addCase_182 rfl h
          · replace h := h.2 c
            refine y_iconst 140 Y dX6_addCase_140 rfl ?_
            exact y_iret 141 Y dX6_addCase_141 rfl h
        · replace h := h.2 c
          refine y_iload 124 Y dX6_addCase_124 rfl ?_
          refine y_if 126 133 Y dX6_addCase_126 rfl rfl (fun c => ?_) (fun c => ?_)
          · replace h := h.1 c
            refine y_iconst 133 Y dX6_addCase_133 rfl ?_
            refine y_call 134 Y (as := [mi 0, mi 0, mi 0]) [] dX6_addCase_134 rfl rfl rfl rfl rfl h (fun r S15 hq hI hr => ?_)
            obtain ⟨v16, rfl, h⟩ := Qi_ok hq
            replace h := h hI (mokI (hr _ rfl))
            clear hq hr
            refine y_if 137 142 Y dX6_addCase_137 rfl rfl (fun c => ?_) (fun c => ?_)
            · replace h := h.1 c
              refine y_aload_n 142 Y dX6_addCase_142 rfl ?_
              refine y_iload 143 Y dX6_addCase_143 rfl ?_
              refine y_call 145 Y (as := [mi l5]) [] dX6_addCase_145 rfl rfl rfl rfl rfl h (fun r S17 hq hI _ => ?_)
              obtain ⟨rfl, h⟩ := Qv_ok hq
              replace h := h hI
              clear hq
              refine y_aload_n 148 Y dX6_addCase_148 rfl ?_
              refine y_iload 149 Y dX6_addCase_149 rfl ?_
              refine y_iconst 151 Y dX6_addCase_151 rfl ?_
              refine y_iload_n 152 Y dX6_addCase_152 rfl ?_
              refine y_call 153 Y (as := [mi l5, mi 0, mi l2]) [] dX6_addCase_153 rfl rfl rfl rfl rfl h (fun r S18 hq hI _ => ?_)
              obtain ⟨rfl, h⟩ := Qv_ok hq
              replace h := h hI
              clear hq
              refine y_aload_n 156 Y dX6_addCase_156 rfl ?_
              refine y_iload 157 Y dX6_addCase_157 rfl ?_
              refine y_iconst 159 Y dX6_addCase_159 rfl ?_
              refine y_iload_n 160 Y dX6_addCase_160 rfl ?_
              refine y_call 161 Y (as := [mi l5, mi 1, mi l3]) [] dX6_addCase_161 rfl rfl rfl rfl rfl h (fun r S19 hq hI _ => ?_)
              obtain ⟨rfl, h⟩ := Qv_ok hq
              replace h := h hI
              clear hq
              refine y_aload_n 164 Y dX6_addCase_164 rfl ?_
              refine y_geta 165 Y 12 dX6_addCase_165 rfl rfl ?_
              refine y_iload 168 Y dX6_addCase_168 rfl ?_
              refine y_dup2 170 Y dX6_addCase_170 rfl rfl ?_
              refine y_iald 171 Y dX6_addCase_171 rfl rfl o1 o2 (fun _ => ?_)
              refine y_iconst 172 Y dX6_addCase_172 rfl ?_
              obtain ⟨o20, h⟩ := h
              refine y_iadd 173 Y dX6_addCase_173 o20 ?_
              refine y_iast 174 Y dX6_addCase_174 rfl rfl o1 o2 ?_
              refine y_aload_n 175 Y dX6_addCase_175 rfl ?_
              refine y_geta 176 Y 12 dX6_addCase_176 rfl rfl ?_
              refine y_iload 179 Y dX6_addCase_179 rfl ?_
              refine y_iald 181 Y dX6_addCase_181 rfl rfl o1 o2 (fun q => ?_)
              replace h := h q
              exact y_iret 182 Y dX6_addCase_182 rfl h
            · replace h := h.2 c
              refine y_iconst 140 Y dX6_addCase_140 rfl ?_
              exact y_iret 141 Y dX6_addCase_141 rfl h
          · replace h := h.2 c
            refine y_iconst 129 Y dX6_addCase_129 rfl ?_
            refine y_goto 130 134 Y dX6_addCase_130 rfl rfl ?_
            refine y_call 134 Y (as := [mi 0, mi 0, mi 1]) [] dX6_addCase_134 rfl rfl rfl rfl rfl h (fun r S21 hq hI hr => ?_)
            obtain ⟨v22, rfl, h⟩ := Qi_ok hq
            replace h := h hI (mokI (hr _ rfl))
            clear hq hr
            refine y_if 137 142 Y dX6_addCase_137 rfl rfl (fun c => ?_) (fun c => ?_)
            · replace h := h.1 c
              refine y_aload_n 142 Y dX6_addCase_142 rfl ?_
              refine y_iload 143 Y dX6_addCase_143 rfl ?_
              refine y_call 145 Y (as := [mi l5]) [] dX6_addCase_145 rfl rfl rfl rfl rfl h (fun r S23 hq hI _ => ?_)
              obtain ⟨rfl, h⟩ := Qv_ok hq
              replace h := h hI
              clear hq
              refine y_aload_n 148 Y dX6_addCase_148 rfl ?_
              refine y_iload 149 Y dX6_addCase_149 rfl ?_
              refine y_iconst 151 Y dX6_addCase_151 rfl ?_
              refine y_iload_n 152 Y dX6_addCase_152 rfl ?_
              refine y_call 153 Y (as := [mi l5, mi 0, mi l2]) [] dX6_addCase_153 rfl rfl rfl rfl rfl h (fun r S24 hq hI _ => ?_)
              obtain ⟨rfl, h⟩ := Qv_ok hq
              replace h := h hI
              clear hq
              refine y_aload_n 156 Y dX6_addCase_156 rfl ?_
              refine y_iload 157 Y dX6_addCase_157 rfl ?_
              refine y_iconst 159 Y dX6_addCase_159 rfl ?_
              refine y_iload_n 160 Y dX6_addCase_160 rfl ?_
              refine y_call 161 Y (as := [mi l5, mi 1, mi l3]) [] dX6_addCase_161 rfl rfl rfl rfl rfl h (fun r S25 hq hI _ => ?_)
              obtain ⟨rfl, h⟩ := Qv_ok hq
              replace h := h hI
              clear hq
              refine y_aload_n 164 Y dX6_addCase_164 rfl ?_
              refine y_geta 165 Y 12 dX6_addCase_165 rfl rfl ?_
              refine y_iload 168 Y dX6_addCase_168 rfl ?_
              refine y_dup2 170 Y dX6_addCase_170 rfl rfl ?_
              refine y_iald 171 Y dX6_addCase_171 rfl rfl o1 o2 (fun _ => ?_)
              refine y_iconst 172 Y dX6_addCase_172 rfl ?_
              obtain ⟨o26, h⟩ := h
              refine y_iadd 173 Y dX6_addCase_173 o26 ?_
              refine y_iast 174 Y dX6_addCase_174 rfl rfl o1 o2 ?_
              refine y_aload_n 175 Y dX6_addCase_175 rfl ?_
              refine y_geta 176 Y 12 dX6_addCase_176 rfl rfl ?_
              refine y_iload 179 Y dX6_addCase_179 rfl ?_
              refine y_iald 181 Y dX6_addCase_181 rfl rfl o1 o2 (fun q => ?_)
              replace h := h q
              exact y_iret 182 Y dX6_addCase_182 rfl h
            · replace h := h.2 c
              refine y_iconst 140 Y dX6_addCase_140 rfl ?_
              exact y_iret 141 Y dX6_addCase_141 rfl h
set_option maxHeartbeats 4000000 in
theorem of_addDerived {g : mG} {S : mS} {a1 a2 : Int} {Qp : Option mV → mS → Prop}
    (hE : mI S → (-2147483648 ≤ a1 ∧ a1 ≤ 2147483647) → (-2147483648 ≤ a2 ∧ a2 ≤ 2147483647) → (-2147483648 ≤ ((a1 - a2) : Int) ∧ (a1 - a2) ≤ 2147483647) ∧ (-2147483648 ≤ ((80 * (a1 - a2)) : Int) ∧ (80 * (a1 - a2)) ≤ 2147483647) ∧ (-2147483648 ≤ ((13740 + (80 * (a1 - a2))) : Int) ∧ (13740 + (80 * (a1 - a2))) ≤ 2147483647) ∧ (0 ≤ (a1 - a2)) ∧ ((a1 - a2) < 80) ∧ CX_addNodes g [mt, mi (13740 + (80 * (a1 - a2))), mi (S 73 (a1 - a2))] S (Qv fun S6 => mI S6 → Qp none S6))
    : CX_addDerived g [mt, mi a1, mi a2] S Qp := by
  refine cm_y ⟨by decide, rfl⟩ (by simp [mcat]) (by simp) (fun _ _ _ _ _ => False) ?_ ?_
  · intro ha hS P Y Wk hIc
    have h := hE hS (mokI (ha (mi a1) (by simp))) (mokI (ha (mi a2) (by simp)))
    clear hE ha
    refine y_aload_n 0 Y dX6_addDerived_0 rfl ?_
    refine y_sipush 1 Y dX6_addDerived_1 rfl ?_
    refine y_bipush 4 Y dX6_addDerived_4 rfl ?_
    refine y_iload_n 6 Y dX6_addDerived_6 rfl ?_
    refine y_iload_n 7 Y dX6_addDerived_7 rfl ?_
    obtain ⟨o1, h⟩ := h
    refine y_isub 8 Y dX6_addDerived_8 o1 ?_
    obtain ⟨o2, h⟩ := h
    refine y_imul 9 Y dX6_addDerived_9 o2 ?_
    obtain ⟨o3, h⟩ := h
    refine y_iadd 10 Y dX6_addDerived_10 o3 ?_
    refine y_aload_n 11 Y dX6_addDerived_11 rfl ?_
    refine y_geta 12 Y 73 dX6_addDerived_12 rfl rfl ?_
    refine y_iload_n 15 Y dX6_addDerived_15 rfl ?_
    refine y_iload_n 16 Y dX6_addDerived_16 rfl ?_
    refine y_isub 17 Y dX6_addDerived_17 o1 ?_
    obtain ⟨o4, h⟩ := h
    obtain ⟨o5, h⟩ := h
    refine y_iald 18 Y dX6_addDerived_18 rfl rfl o4 o5 (fun _ => ?_)
    refine y_call 19 Y (as := [mi (13740 + (80 * (a1 - a2))), mi (S 73 (a1 - a2))]) [] dX6_addDerived_19 rfl rfl rfl rfl rfl h (fun r S6 hq hI _ => ?_)
    obtain ⟨rfl, h⟩ := Qv_ok hq
    replace h := h hI
    clear hq
    exact y_ret 22 Y dX6_addDerived_22 rfl h
  · intro n pc L st T hi
    exact hi.elim
set_option maxHeartbeats 4000000 in
theorem of_addTree {g : mG} {S : mS} {a1 : Int} {Qp : Option mV → mS → Prop}
    (hE : mI S → (-2147483648 ≤ a1 ∧ a1 ≤ 2147483647) → (0 ≤ a1) ∧ (a1 < 20300) ∧ CX_addNodes g [mt, mi a1, mi (S 8 a1)] S (Qv fun S3 => mI S3 → Qp none S3))
    : CX_addTree g [mt, mi a1] S Qp := by
  refine cm_y ⟨by decide, rfl⟩ (by simp [mcat]) (by simp) (fun _ _ _ _ _ => False) ?_ ?_
  · intro ha hS P Y Wk hIc
    have h := hE hS (mokI (ha (mi a1) (by simp)))
    clear hE ha
    refine y_aload_n 0 Y dX6_addTree_0 rfl ?_
    refine y_iload_n 1 Y dX6_addTree_1 rfl ?_
    refine y_aload_n 2 Y dX6_addTree_2 rfl ?_
    refine y_geta 3 Y 8 dX6_addTree_3 rfl rfl ?_
    refine y_iload_n 6 Y dX6_addTree_6 rfl ?_
    obtain ⟨o1, h⟩ := h
    obtain ⟨o2, h⟩ := h
    refine y_iald 7 Y dX6_addTree_7 rfl rfl o1 o2 (fun _ => ?_)
    refine y_call 8 Y (as := [mi a1, mi (S 8 a1)]) [] dX6_addTree_8 rfl rfl rfl rfl rfl h (fun r S3 hq hI _ => ?_)
    obtain ⟨rfl, h⟩ := Qv_ok hq
    replace h := h hI
    clear hq
    exact y_ret 11 Y dX6_addTree_11 rfl h
  · intro n pc L st T hi
    exact hi.elim
set_option maxHeartbeats 4000000 in
theorem of_clearWide {g : mG} {S : mS}  {Qp : Option mV → mS → Prop}
    (hE : mI S → CX_put g [mt, mi 8, mi 0] (mup S 69 0 0) (Qv fun S1 => mI S1 → CX_put g [mt, mi 9, mi 1] S1 (Qv fun S2 => mI S2 → Qp none S2)))
    : CX_clearWide g [mt] S Qp := by
  refine cm_y ⟨by decide, rfl⟩ (by simp [mcat]) (by simp) (fun _ _ _ _ _ => False) ?_ ?_
  · intro ha hS P Y Wk hIc
    have h := hE hS
    clear hE ha
    refine y_aload_n 0 Y dX6_clearWide_0 rfl ?_
    refine y_iconst 1 Y dX6_clearWide_1 rfl ?_
    refine y_putf 2 Y 69 dX6_clearWide_2 rfl rfl (fun q => absurd q (by decide)) ?_
    refine y_aload_n 5 Y dX6_clearWide_5 rfl ?_
    refine y_bipush 6 Y dX6_clearWide_6 rfl ?_
    refine y_iconst 8 Y dX6_clearWide_8 rfl ?_
    refine y_call 9 Y (as := [mi 8, mi 0]) [] dX6_clearWide_9 rfl rfl rfl rfl rfl h (fun r S1 hq hI _ => ?_)
    obtain ⟨rfl, h⟩ := Qv_ok hq
    replace h := h hI
    clear hq
    refine y_aload_n 12 Y dX6_clearWide_12 rfl ?_
    refine y_bipush 13 Y dX6_clearWide_13 rfl ?_
    refine y_iconst 15 Y dX6_clearWide_15 rfl ?_
    refine y_call 16 Y (as := [mi 9, mi 1]) [] dX6_clearWide_16 rfl rfl rfl rfl rfl h (fun r S2 hq hI _ => ?_)
    obtain ⟨rfl, h⟩ := Qv_ok hq
    replace h := h hI
    clear hq
    exact y_ret 19 Y dX6_clearWide_19 rfl h
  · intro n pc L st T hi
    exact hi.elim

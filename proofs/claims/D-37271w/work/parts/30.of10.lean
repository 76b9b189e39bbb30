/-! Contracts out of conditions; printed by gen_vc.py. -/
set_option maxRecDepth 100000
set_option maxHeartbeats 4000000 in
theorem of_step {g : mG} {S : mS} {a1 : Int} {Qp : Option mV → mS → Prop}
    (hE : mI S → (-2147483648 ≤ a1 ∧ a1 ≤ 2147483647) → CX_isTree g [mt, mi a1] S (Qi fun v2 S1 => mI S1 → (-2147483648 ≤ v2 ∧ v2 ≤ 2147483647) → ((v2 ≠ 0) → (((S1 10 0) ≠ 30) → CX_refused g [mt, mi 0, mi 0, mi 0] S1 (Qi fun v4 S3 => mI S3 → (-2147483648 ≤ v4 ∧ v4 ≤ 2147483647) → ((v4 = 0) → CX_shelf g [mi a1] S3 (Qi fun v6 S5 => mI S5 → (-2147483648 ≤ v6 ∧ v6 ≤ 2147483647) → CX_takeWork g [mt, mi v6] S5 (Qv fun S7 => mI S7 → CX_stepWork g [mt] (mup S7 67 0 0) (Qi fun v9 S8 => mI S8 → (-2147483648 ≤ v9 ∧ v9 ≤ 2147483647) → ((v9 = 0) → Qp (some (mi (-1))) S8) ∧ (¬ (v9 = 0) → CX_shelve g [mt, mi 13540, mi (S8 64 0)] S8 (Qi fun v11 S10 => mI S10 → (-2147483648 ≤ v11 ∧ v11 ≤ 2147483647) → Qp (some (mi v11)) S10)))))) ∧ (¬ (v4 = 0) → Qp (some (mi 0)) S3))) ∧ (¬ ((S1 10 0) ≠ 30) → CX_refused g [mt, mi 0, mi 1, mi 0] S1 (Qi fun v13 S12 => mI S12 → (-2147483648 ≤ v13 ∧ v13 ≤ 2147483647) → ((v13 = 0) → CX_shelf g [mi a1] S12 (Qi fun v15 S14 => mI S14 → (-2147483648 ≤ v15 ∧ v15 ≤ 2147483647) → CX_takeWork g [mt, mi v15] S14 (Qv fun S16 => mI S16 → CX_stepWork g [mt] (mup S16 67 0 0) (Qi fun v18 S17 => mI S17 → (-2147483648 ≤ v18 ∧ v18 ≤ 2147483647) → ((v18 = 0) → Qp (some (mi (-1))) S17) ∧ (¬ (v18 = 0) → CX_shelve g [mt, mi 13540, mi (S17 64 0)] S17 (Qi fun v20 S19 => mI S19 → (-2147483648 ≤ v20 ∧ v20 ≤ 2147483647) → Qp (some (mi v20)) S19)))))) ∧ (¬ (v13 = 0) → Qp (some (mi 0)) S12)))) ∧ (¬ (v2 ≠ 0) → (((S1 10 0) ≠ 30) → CX_refused g [mt, mi 1, mi 0, mi 0] S1 (Qi fun v22 S21 => mI S21 → (-2147483648 ≤ v22 ∧ v22 ≤ 2147483647) → ((v22 = 0) → CX_shelf g [mi a1] S21 (Qi fun v24 S23 => mI S23 → (-2147483648 ≤ v24 ∧ v24 ≤ 2147483647) → CX_takeWork g [mt, mi v24] S23 (Qv fun S25 => mI S25 → CX_stepWork g [mt] (mup S25 67 0 0) (Qi fun v27 S26 => mI S26 → (-2147483648 ≤ v27 ∧ v27 ≤ 2147483647) → ((v27 = 0) → Qp (some (mi (-1))) S26) ∧ (¬ (v27 = 0) → CX_shelve g [mt, mi 13540, mi (S26 64 0)] S26 (Qi fun v29 S28 => mI S28 → (-2147483648 ≤ v29 ∧ v29 ≤ 2147483647) → Qp (some (mi v29)) S28)))))) ∧ (¬ (v22 = 0) → Qp (some (mi 0)) S21))) ∧ (¬ ((S1 10 0) ≠ 30) → CX_refused g [mt, mi 1, mi 1, mi 0] S1 (Qi fun v31 S30 => mI S30 → (-2147483648 ≤ v31 ∧ v31 ≤ 2147483647) → ((v31 = 0) → CX_shelf g [mi a1] S30 (Qi fun v33 S32 => mI S32 → (-2147483648 ≤ v33 ∧ v33 ≤ 2147483647) → CX_takeWork g [mt, mi v33] S32 (Qv fun S34 => mI S34 → CX_stepWork g [mt] (mup S34 67 0 0) (Qi fun v36 S35 => mI S35 → (-2147483648 ≤ v36 ∧ v36 ≤ 2147483647) → ((v36 = 0) → Qp (some (mi (-1))) S35) ∧ (¬ (v36 = 0) → CX_shelve g [mt, mi 13540, mi (S35 64 0)] S35 (Qi fun v38 S37 => mI S37 → (-2147483648 ≤ v38 ∧ v38 ≤ 2147483647) → Qp (some (mi v38)) S37)))))) ∧ (¬ (v31 = 0) → Qp (some (mi 0)) S30))))))
    : CX_step g [mt, mi a1] S Qp := by
  refine cm_y ⟨by decide, rfl⟩ (by simp [mcat]) (by simp) (fun _ _ _ _ _ => False) ?_ ?_
  · intro ha hS P Y Wk hIc
    have h := hE hS (mokI (ha (mi a1) (by simp)))
    clear hE ha
    refine y_aload_n 0 Y dX6_step_0 rfl ?_
    refine y_aload_n 1 Y dX6_step_1 rfl ?_
    refine y_iload_n 2 Y dX6_step_2 rfl ?_
    refine y_call 3 Y (as := [mi a1]) [mt] dX6_step_3 rfl rfl rfl rfl rfl h (fun r S1 hq hI hr => ?_)
    obtain ⟨v2, rfl, h⟩ := Qi_ok hq
    replace h := h hI (mokI (hr _ rfl))
    clear hq hr
    refine y_if 6 13 Y dX6_step_6 rfl rfl (fun c => ?_) (fun c => ?_)
    · replace h := h.1 c
      refine y_iconst 13 Y dX6_step_13 rfl ?_
      refine y_aload_n 14 Y dX6_step_14 rfl ?_
      refine y_getf 15 Y 10 dX6_step_15 rfl rfl (fun _ => ?_)
      refine y_bipush 18 Y dX6_step_18 rfl ?_
      refine y_icmp 20 27 Y dX6_step_20 rfl rfl (fun c => ?_) (fun c => ?_)
      · replace h := h.1 c
        refine y_iconst 27 Y dX6_step_27 rfl ?_
        refine y_iconst 28 Y dX6_step_28 rfl ?_
        refine y_call 29 Y (as := [mi 0, mi 0, mi 0]) [] dX6_step_29 rfl rfl rfl rfl rfl h (fun r S3 hq hI hr => ?_)
        obtain ⟨v4, rfl, h⟩ := Qi_ok hq
        replace h := h hI (mokI (hr _ rfl))
        clear hq hr
        refine y_if 32 37 Y dX6_step_32 rfl rfl (fun c => ?_) (fun c => ?_)
        · replace h := h.1 c
          refine y_aload_n 37 Y dX6_step_37 rfl ?_
          refine y_iload_n 38 Y dX6_step_38 rfl ?_
          refine y_calls 39 Y (as := [mi a1]) [mt] dX6_step_39 rfl rfl rfl rfl rfl h (fun r S5 hq hI hr => ?_)
          obtain ⟨v6, rfl, h⟩ := Qi_ok hq
          replace h := h hI (mokI (hr _ rfl))
          clear hq hr
          refine y_call 42 Y (as := [mi v6]) [] dX6_step_42 rfl rfl rfl rfl rfl h (fun r S7 hq hI _ => ?_)
          obtain ⟨rfl, h⟩ := Qv_ok hq
          replace h := h hI
          clear hq
          refine y_aload_n 45 Y dX6_step_45 rfl ?_
          refine y_iconst 46 Y dX6_step_46 rfl ?_
          refine y_putf 47 Y 67 dX6_step_47 rfl rfl (fun q => absurd q (by decide)) ?_
          refine y_aload_n 50 Y dX6_step_50 rfl ?_
          refine y_call 51 Y (as := []) [] dX6_step_51 rfl rfl rfl rfl rfl h (fun r S8 hq hI hr => ?_)
          obtain ⟨v9, rfl, h⟩ := Qi_ok hq
          replace h := h hI (mokI (hr _ rfl))
          clear hq hr
          refine y_if 54 71 Y dX6_step_54 rfl rfl (fun c => ?_) (fun c => ?_)
          · replace h := h.1 c
            refine y_iconst 71 Y dX6_step_71 rfl ?_
            exact y_iret 72 Y dX6_step_72 rfl h
          · replace h := h.2 c
            refine y_aload_n 57 Y dX6_step_57 rfl ?_
            refine y_sipush 58 Y dX6_step_58 rfl ?_
            refine y_aload_n 61 Y dX6_step_61 rfl ?_
            refine y_getf 62 Y 64 dX6_step_62 rfl rfl (fun _ => ?_)
            refine y_call 65 Y (as := [mi 13540, mi (S8 64 0)]) [] dX6_step_65 rfl rfl rfl rfl rfl h (fun r S10 hq hI hr => ?_)
            obtain ⟨v11, rfl, h⟩ := Qi_ok hq
            replace h := h hI (mokI (hr _ rfl))
            clear hq hr
            refine y_goto 68 72 Y dX6_step_68 rfl rfl ?_
            exact y_iret 72 Y dX6_step_72 rfl h
        · replace h := h.2 c
          refine y_iconst 35 Y dX6_step_35 rfl ?_
          exact y_iret 36 Y dX6_step_36 rfl h
      · replace h := h.2 c
        refine y_iconst 23 Y dX6_step_23 rfl ?_
        refine y_goto 24 28 Y dX6_step_24 rfl rfl ?_
        refine y_iconst 28 Y dX6_step_28 rfl ?_
        refine y_call 29 Y (as := [mi 0, mi 1, mi 0]) [] dX6_step_29 rfl rfl rfl rfl rfl h (fun r S12 hq hI hr => ?_)
        obtain ⟨v13, rfl, h⟩ := Qi_ok hq
        replace h := h hI (mokI (hr _ rfl))
        clear hq hr
        refine y_if 32 37 Y dX6_step_32 rfl rfl (fun c => ?_) (fun c => ?_)
        · replace h := h.1 c
          refine y_aload_n 37 Y dX6_step_37 rfl ?_
          refine y_iload_n 38 Y dX6_step_38 rfl ?_
          refine y_calls 39 Y (as := [mi a1]) [mt] dX6_step_39 rfl rfl rfl rfl rfl h (fun r S14 hq hI hr => ?_)
          obtain ⟨v15, rfl, h⟩ := Qi_ok hq
          replace h := h hI (mokI (hr _ rfl))
          clear hq hr
          refine y_call 42 Y (as := [mi v15]) [] dX6_step_42 rfl rfl rfl rfl rfl h (fun r S16 hq hI _ => ?_)
          obtain ⟨rfl, h⟩ := Qv_ok hq
          replace h := h hI
          clear hq
          refine y_aload_n 45 Y dX6_step_45 rfl ?_
          refine y_iconst 46 Y dX6_step_46 rfl ?_
          refine y_putf 47 Y 67 dX6_step_47 rfl rfl (fun q => absurd q (by decide)) ?_
          refine y_aload_n 50 Y dX6_step_50 rfl ?_
          refine y_call 51 Y (as := []) [] dX6_step_51 rfl rfl rfl rfl rfl h (fun r S17 hq hI hr => ?_)
          obtain ⟨v18, rfl, h⟩ := Qi_ok hq
          replace h := h hI (mokI (hr _ rfl))
          clear hq hr
          refine y_if 54 71 Y dX6_step_54 rfl rfl (fun c => ?_) (fun c => ?_)
          · replace h := h.1 c
            refine y_iconst 71 Y dX6_step_71 rfl ?_
            exact y_iret 72 Y dX6_step_72 rfl h
          · replace h := h.2 c
            refine y_aload_n 57 Y dX6_step_57 rfl ?_
            refine y_sipush 58 Y dX6_step_58 rfl ?_
            refine y_aload_n 61 Y dX6_step_61 rfl ?_
            refine y_getf 62 Y 64 dX6_step_62 rfl rfl (fun _ => ?_)
            refine y_call 65 Y (as := [mi 13540, mi (S17 64 0)]) [] dX6_step_65 rfl rfl rfl rfl rfl h (fun r S19 hq hI hr => ?_)
            obtain ⟨v20, rfl, h⟩ := Qi_ok hq
            replace h := h hI (mokI (hr _ rfl))
            clear hq hr
            refine y_goto 68 72 Y dX6_step_68 rfl rfl ?_
            exact y_iret 72 Y dX6_step_72 rfl h
        · replace h := h.2 c
          refine y_iconst 35 Y dX6_step_35 rfl ?_
          exact y_iret 36 Y dX6_step_36 rfl h
    · replace h := h.2 c
      refine y_iconst 9 Y dX6_step_9 rfl ?_
      refine y_goto 10 14 Y dX6_step_10 rfl rfl ?_
      refine y_aload_n 14 Y dX6_step_14 rfl ?_
      refine y_getf 15 Y 10 dX6_step_15 rfl rfl (fun _ => ?_)
      refine y_bipush 18 Y dX6_step_18 rfl ?_
      refine y_icmp 20 27 Y dX6_step_20 rfl rfl (fun c => ?_) (fun c => ?_)
      · replace h := h.1 c
        refine y_iconst 27 Y dX6_step_27 rfl ?_
        refine y_iconst 28 Y dX6_step_28 rfl ?_
        refine y_call 29 Y (as := [mi 1, mi 0, mi 0]) [] dX6_step_29 rfl rfl rfl rfl rfl h (fun r S21 hq hI hr => ?_)
        obtain ⟨v22, rfl, h⟩ := Qi_ok hq
        replace h := h hI (mokI (hr _ rfl))
        clear hq hr
        refine y_if 32 37 Y dX6_step_32 rfl rfl (fun c => ?_) (fun c => ?_)
        · replace h := h.1 c
          refine y_aload_n 37 Y dX6_step_37 rfl ?_
          refine y_iload_n 38 Y dX6_step_38 rfl ?_
          refine y_calls 39 Y (as := [mi a1]) [mt] dX6_step_39 rfl rfl rfl rfl rfl h (fun r S23 hq hI hr => ?_)
          obtain ⟨v24, rfl, h⟩ := Qi_ok hq
          replace h := h hI (mokI (hr _ rfl))
          clear hq hr
          refine y_call 42 Y (as := [mi v24]) [] dX6_step_42 rfl rfl rfl rfl rfl h (fun r S25 hq hI _ => ?_)
          obtain ⟨rfl, h⟩ := Qv_ok hq
          replace h := h hI
          clear hq
          refine y_aload_n 45 Y dX6_step_45 rfl ?_
          refine y_iconst 46 Y dX6_step_46 rfl ?_
          refine y_putf 47 Y 67 dX6_step_47 rfl rfl (fun q => absurd q (by decide)) ?_
          refine y_aload_n 50 Y dX6_step_50 rfl ?_
          refine y_call 51 Y (as := []) [] dX6_step_51 rfl rfl rfl rfl rfl h (fun r S26 hq hI hr => ?_)
          obtain ⟨v27, rfl, h⟩ := Qi_ok hq
          replace h := h hI (mokI (hr _ rfl))
          clear hq hr
          refine y_if 54 71 Y dX6_step_54 rfl rfl (fun c => ?_) (fun c => ?_)
          · replace h := h.1 c
            refine y_iconst 71 Y dX6_step_71 rfl ?_
            exact y_iret 72 Y dX6_step_72 rfl h
          · replace h := h.2 c
            refine y_aload_n 57 Y dX6_step_57 rfl ?_
            refine y_sipush 58 Y dX6_step_58 rfl ?_
            refine y_aload_n 61 Y dX6_step_61 rfl ?_
            refine y_getf 62 Y 64 dX6_step_62 rfl rfl (fun _ => ?_)
            refine y_call 65 Y (as := [mi 13540, mi (S26 64 0)]) [] dX6_step_65 rfl rfl rfl rfl rfl h (fun r S28 hq hI hr => ?_)
            obtain ⟨v29, rfl, h⟩ := Qi_ok hq
            replace h := h hI (mokI (hr _ rfl))
            clear hq hr
            refine y_goto 68 72 Y dX6_step_68 rfl rfl ?_
            exact y_iret 72 Y dX6_step_72 rfl h
        · replace h := h.2 c
          refine y_iconst 35 Y dX6_step_35 rfl ?_
          exact y_iret 36 Y dX6_step_36 rfl h
      · replace h := h.2 c
        refine y_iconst 23 Y dX6_step_23 rfl ?_
        refine y_goto 24 28 Y dX6_step_24 rfl rfl ?_
        refine y_iconst 28 Y dX6_step_28 rfl ?_
        refine y_call 29 Y (as := [mi 1, mi 1, mi 0]) [] dX6_step_29 rfl rfl rfl rfl rfl h (fun r S30 hq hI hr => ?_)
        obtain ⟨v31, rfl, h⟩ := Qi_ok hq
        replace h := h hI (mokI (hr _ rfl))
        clear hq hr
        refine y_if 32 37 Y dX6_step_32 rfl rfl (fun c => ?_) (fun c => ?_)
        · replace h := h.1 c
          refine y_aload_n 37 Y dX6_step_37 rfl ?_
          refine y_iload_n 38 Y dX6_step_38 rfl ?_
          refine y_calls 39 Y (as := [mi a1]) [mt] dX6_step_39 rfl rfl rfl rfl rfl h (fun r S32 hq hI hr => ?_)
          obtain ⟨v33, rfl, h⟩ := Qi_ok hq
          replace h := h hI (mokI (hr _ rfl))
          clear hq hr
          refine y_call 42 Y (as := [mi v33]) [] dX6_step_42 rfl rfl rfl rfl rfl h (fun r S34 hq hI _ => ?_)
          obtain ⟨rfl, h⟩ := Qv_ok hq
          replace h := h hI
          clear hq
          refine y_aload_n 45 Y dX6_step_45 rfl ?_
          refine y_iconst 46 Y dX6_step_46 rfl ?_
          refine y_putf 47 Y 67 dX6_step_47 rfl rfl (fun q => absurd q (by decide)) ?_
          refine y_aload_n 50 Y dX6_step_50 rfl ?_
          refine y_call 51 Y (as := []) [] dX6_step_51 rfl rfl rfl rfl rfl h (fun r S35 hq hI hr => ?_)
          obtain ⟨v36, rfl, h⟩ := Qi_ok hq
          replace h := h hI (mokI (hr _ rfl))
          clear hq hr
          refine y_if 54 71 Y dX6_step_54 rfl rfl (fun c => ?_) (fun c => ?_)
          · replace h := h.1 c
            refine y_iconst 71 Y dX6_step_71 rfl ?_
            exact y_iret 72 Y dX6_step_72 rfl h
          · replace h := h.2 c
            refine y_aload_n 57 Y dX6_step_57 rfl ?_
            refine y_sipush 58 Y dX6_step_58 rfl ?_
            refine y_aload_n 61 Y dX6_step_61 rfl ?_
            refine y_getf 62 Y 64 dX6_step_62 rfl rfl (fun _ => ?_)
            refine y_call 65 Y (as := [mi 13540, mi (S35 64 0)]) [] dX6_step_65 rfl rfl rfl rfl rfl h (fun r S37 hq hI hr => ?_)
            obtain ⟨v38, rfl, h⟩ := Qi_ok hq
            replace h := h hI (mokI (hr _ rfl))
            clear hq hr
            refine y_goto 68 72 Y dX6_step_68 rfl rfl ?_
            exact y_iret 72 Y dX6_step_72 rfl h
        · replace h := h.2 c
          refine y_iconst 35 Y dX6_step_35 rfl ?_
          exact y_iret 36 Y dX6_step_36 rfl h
  · intro n pc L st T hi
    exact hi.elim
set_option maxHeartbeats 4000000 in
theorem of_sums {g : mG} {S : mS} {a1 a2 : Int} {Qp : Option mV → mS → Prop}
    (hE : mI S → (-2147483648 ≤ a1 ∧ a1 ≤ 2147483647) → (-2147483648 ≤ a2 ∧ a2 ≤ 2147483647) → (0 ≤ a1) ∧ (a1 < 800) ∧ (((S 49 a1) ≠ 3) → (((S 49 a1) ≠ 2) → (((S 49 a1) ≠ 0) → (((S 49 a1) ≠ 0) → (((S 49 a1) ≠ 0) → (-2147483648 ≤ (((S 49 a1) + 1) : Int) ∧ ((S 49 a1) + 1) ≤ 2147483647) ∧ (-2147483648 ≤ ((mup S 49 a1 ((S 49 a1) + 1)) 49 a1) ∧ ((mup S 49 a1 ((S 49 a1) + 1)) 49 a1) ≤ 2147483647 → CX_child g [mt, mi a2, mi ((mup S 49 a1 ((S 49 a1) + 1)) 49 a1)] (mup S 49 a1 ((S 49 a1) + 1)) (Qi fun v5 S4 => mI S4 → (-2147483648 ≤ v5 ∧ v5 ≤ 2147483647) → CX_enter g [mt, mi v5, mi (S4 50 a1)] S4 (Qv fun S6 => mI S6 → Qp (some (mi 0)) S6)))) ∧ (¬ ((S 49 a1) ≠ 0) → (-2147483648 ≤ ((a2 + 1) : Int) ∧ (a2 + 1) ≤ 2147483647) ∧ (0 ≤ (a2 + 1)) ∧ ((a2 + 1) < 20300) ∧ (((S 4 (a2 + 1)) = 1) → (-2147483648 ≤ (((S 49 a1) + 1) : Int) ∧ ((S 49 a1) + 1) ≤ 2147483647) ∧ (-2147483648 ≤ ((mup S 49 a1 ((S 49 a1) + 1)) 49 a1) ∧ ((mup S 49 a1 ((S 49 a1) + 1)) 49 a1) ≤ 2147483647 → CX_child g [mt, mi a2, mi ((mup S 49 a1 ((S 49 a1) + 1)) 49 a1)] (mup S 49 a1 ((S 49 a1) + 1)) (Qi fun v12 S11 => mI S11 → (-2147483648 ≤ v12 ∧ v12 ≤ 2147483647) → CX_enter g [mt, mi v12, mi (S11 50 a1)] S11 (Qv fun S13 => mI S13 → Qp (some (mi 0)) S13)))) ∧ (¬ ((S 4 (a2 + 1)) = 1) → Qp (some (mi 10)) S))) ∧ (¬ ((S 49 a1) ≠ 0) → (0 ≤ a2) ∧ (a2 < 20300) ∧ (((S 7 a2) = 4) → (((S 49 a1) ≠ 0) → (-2147483648 ≤ (((S 49 a1) + 1) : Int) ∧ ((S 49 a1) + 1) ≤ 2147483647) ∧ (-2147483648 ≤ ((mup S 49 a1 ((S 49 a1) + 1)) 49 a1) ∧ ((mup S 49 a1 ((S 49 a1) + 1)) 49 a1) ≤ 2147483647 → CX_child g [mt, mi a2, mi ((mup S 49 a1 ((S 49 a1) + 1)) 49 a1)] (mup S 49 a1 ((S 49 a1) + 1)) (Qi fun v18 S17 => mI S17 → (-2147483648 ≤ v18 ∧ v18 ≤ 2147483647) → CX_enter g [mt, mi v18, mi (S17 50 a1)] S17 (Qv fun S19 => mI S19 → Qp (some (mi 0)) S19)))) ∧ (¬ ((S 49 a1) ≠ 0) → (-2147483648 ≤ ((a2 + 1) : Int) ∧ (a2 + 1) ≤ 2147483647) ∧ (0 ≤ (a2 + 1)) ∧ ((a2 + 1) < 20300) ∧ (((S 4 (a2 + 1)) = 1) → (-2147483648 ≤ (((S 49 a1) + 1) : Int) ∧ ((S 49 a1) + 1) ≤ 2147483647) ∧ (-2147483648 ≤ ((mup S 49 a1 ((S 49 a1) + 1)) 49 a1) ∧ ((mup S 49 a1 ((S 49 a1) + 1)) 49 a1) ≤ 2147483647 → CX_child g [mt, mi a2, mi ((mup S 49 a1 ((S 49 a1) + 1)) 49 a1)] (mup S 49 a1 ((S 49 a1) + 1)) (Qi fun v25 S24 => mI S24 → (-2147483648 ≤ v25 ∧ v25 ≤ 2147483647) → CX_enter g [mt, mi v25, mi (S24 50 a1)] S24 (Qv fun S26 => mI S26 → Qp (some (mi 0)) S26)))) ∧ (¬ ((S 4 (a2 + 1)) = 1) → Qp (some (mi 10)) S))) ∧ (¬ ((S 7 a2) = 4) → Qp (some (mi 5)) S))) ∧ (¬ ((S 49 a1) ≠ 0) → CX_count g [mt] S (Qi fun v28 S27 => mI S27 → (-2147483648 ≤ v28 ∧ v28 ≤ 2147483647) → ((v28 ≤ 0) → (((S27 49 a1) ≠ 0) → (((S27 49 a1) ≠ 0) → (-2147483648 ≤ (((S27 49 a1) + 1) : Int) ∧ ((S27 49 a1) + 1) ≤ 2147483647) ∧ (-2147483648 ≤ ((mup S27 49 a1 ((S27 49 a1) + 1)) 49 a1) ∧ ((mup S27 49 a1 ((S27 49 a1) + 1)) 49 a1) ≤ 2147483647 → CX_child g [mt, mi a2, mi ((mup S27 49 a1 ((S27 49 a1) + 1)) 49 a1)] (mup S27 49 a1 ((S27 49 a1) + 1)) (Qi fun v31 S30 => mI S30 → (-2147483648 ≤ v31 ∧ v31 ≤ 2147483647) → CX_enter g [mt, mi v31, mi (S30 50 a1)] S30 (Qv fun S32 => mI S32 → Qp (some (mi 0)) S32)))) ∧ (¬ ((S27 49 a1) ≠ 0) → (-2147483648 ≤ ((a2 + 1) : Int) ∧ (a2 + 1) ≤ 2147483647) ∧ (0 ≤ (a2 + 1)) ∧ ((a2 + 1) < 20300) ∧ (((S27 4 (a2 + 1)) = 1) → (-2147483648 ≤ (((S27 49 a1) + 1) : Int) ∧ ((S27 49 a1) + 1) ≤ 2147483647) ∧ (-2147483648 ≤ ((mup S27 49 a1 ((S27 49 a1) + 1)) 49 a1) ∧ ((mup S27 49 a1 ((S27 49 a1) + 1)) 49 a1) ≤ 2147483647 → CX_child g [mt, mi a2, mi ((mup S27 49 a1 ((S27 49 a1) + 1)) 49 a1)] (mup S27 49 a1 ((S27 49 a1) + 1)) (Qi fun v38 S37 => mI S37 → (-2147483648 ≤ v38 ∧ v38 ≤ 2147483647) → CX_enter g [mt, mi v38, mi (S37 50 a1)] S37 (Qv fun S39 => mI S39 → Qp (some (mi 0)) S39)))) ∧ (¬ ((S27 4 (a2 + 1)) = 1) → Qp (some (mi 10)) S27))) ∧ (¬ ((S27 49 a1) ≠ 0) → (0 ≤ a2) ∧ (a2 < 20300) ∧ (((S27 7 a2) = 4) → (((S27 49 a1) ≠ 0) → (-2147483648 ≤ (((S27 49 a1) + 1) : Int) ∧ ((S27 49 a1) + 1) ≤ 2147483647) ∧ (-2147483648 ≤ ((mup S27 49 a1 ((S27 49 a1) + 1)) 49 a1) ∧ ((mup S27 49 a1 ((S27 49 a1) + 1)) 49 a1) ≤ 2147483647 → CX_child g [mt, mi a2, mi ((mup S27 49 a1 ((S27 49 a1) + 1)) 49 a1)] (mup S27 49 a1 ((S27 49 a1) + 1)) (Qi fun v44 S43 => mI S43 → (-2147483648 ≤ v44 ∧ v44 ≤ 2147483647) → CX_enter g [mt, mi v44, mi (S43 50 a1)] S43 (Qv fun S45 => mI S45 → Qp (some (mi 0)) S45)))) ∧ (¬ ((S27 49 a1) ≠ 0) → (-2147483648 ≤ ((a2 + 1) : Int) ∧ (a2 + 1) ≤ 2147483647) ∧ (0 ≤ (a2 + 1)) ∧ ((a2 + 1) < 20300) ∧ (((S27 4 (a2 + 1)) = 1) → (-2147483648 ≤ (((S27 49 a1) + 1) : Int) ∧ ((S27 49 a1) + 1) ≤ 2147483647) ∧ (-2147483648 ≤ ((mup S27 49 a1 ((S27 49 a1) + 1)) 49 a1) ∧ ((mup S27 49 a1 ((S27 49 a1) + 1)) 49 a1) ≤ 2147483647 → CX_child g [mt, mi a2, mi ((mup S27 49 a1 ((S27 49 a1) + 1)) 49 a1)] (mup S27 49 a1 ((S27 49 a1) + 1)) (Qi fun v51 S50 => mI S50 → (-2147483648 ≤ v51 ∧ v51 ≤ 2147483647) → CX_enter g [mt, mi v51, mi (S50 50 a1)] S50 (Qv fun S52 => mI S52 → Qp (some (mi 0)) S52)))) ∧ (¬ ((S27 4 (a2 + 1)) = 1) → Qp (some (mi 10)) S27))) ∧ (¬ ((S27 7 a2) = 4) → Qp (some (mi 5)) S27))) ∧ (¬ (v28 ≤ 0) → Qp (some (mi v28)) S27)))) ∧ (¬ ((S 49 a1) ≠ 2) → CX_beginSum g [mt, mi a1, mi a2] S (Qi fun v54 S53 => mI S53 → (-2147483648 ≤ v54 ∧ v54 ≤ 2147483647) → Qp (some (mi v54)) S53))) ∧ (¬ ((S 49 a1) ≠ 3) → CX_goOnSum g [mt, mi a1, mi a2] S (Qi fun v56 S55 => mI S55 → (-2147483648 ≤ v56 ∧ v56 ≤ 2147483647) → Qp (some (mi v56)) S55)))
    : CX_sums g [mt, mi a1, mi a2] S Qp := by
  refine cm_y ⟨by decide, rfl⟩ (by simp [mcat]) (by simp) (fun _ _ _ _ _ => False) ?_ ?_
  · intro ha hS P Y Wk hIc
    have h := hE hS (mokI (ha (mi a1) (by simp))) (mokI (ha (mi a2) (by simp)))
    clear hE ha
    refine y_aload_n 0 Y dX6_sums_0 rfl ?_
    refine y_geta 1 Y 49 dX6_sums_1 rfl rfl ?_
    refine y_iload_n 4 Y dX6_sums_4 rfl ?_
    obtain ⟨o1, h⟩ := h
    obtain ⟨o2, h⟩ := h
    refine y_iald 5 Y dX6_sums_5 rfl rfl o1 o2 (fun _ => ?_)
    refine y_iconst 6 Y dX6_sums_6 rfl ?_
    refine y_icmp 7 17 Y dX6_sums_7 rfl rfl (fun c => ?_) (fun c => ?_)
    · replace h := h.1 c
      refine y_aload_n 17 Y dX6_sums_17 rfl ?_
      refine y_geta 18 Y 49 dX6_sums_18 rfl rfl ?_
      refine y_iload_n 21 Y dX6_sums_21 rfl ?_
      refine y_iald 22 Y dX6_sums_22 rfl rfl o1 o2 (fun _ => ?_)
      refine y_iconst 23 Y dX6_sums_23 rfl ?_
      refine y_icmp 24 34 Y dX6_sums_24 rfl rfl (fun c => ?_) (fun c => ?_)
      · replace h := h.1 c
        refine y_aload_n 34 Y dX6_sums_34 rfl ?_
        refine y_geta 35 Y 49 dX6_sums_35 rfl rfl ?_
        refine y_iload_n 38 Y dX6_sums_38 rfl ?_
        refine y_iald 39 Y dX6_sums_39 rfl rfl o1 o2 (fun _ => ?_)
        refine y_if 40 50 Y dX6_sums_40 rfl rfl (fun c => ?_) (fun c => ?_)
        · replace h := h.1 c
          refine y_iconst 50 Y dX6_sums_50 rfl ?_
          refine y_istore_n 51 Y [some mt, some (mi a1), some (mi a2), some (mi 0)] dX6_sums_51 rfl rfl ?_
          refine y_iload_n 52 Y dX6_sums_52 rfl ?_
          refine y_if 53 58 Y dX6_sums_53 rfl rfl (fun _ => ?_) (fun c => absurd (show (0 : Int) ≤ 0 by decide) c)
          refine y_aload_n 58 Y dX6_sums_58 rfl ?_
          refine y_geta 59 Y 49 dX6_sums_59 rfl rfl ?_
          refine y_iload_n 62 Y dX6_sums_62 rfl ?_
          refine y_iald 63 Y dX6_sums_63 rfl rfl o1 o2 (fun _ => ?_)
          refine y_if 64 79 Y dX6_sums_64 rfl rfl (fun c => ?_) (fun c => ?_)
          · replace h := h.1 c
            refine y_aload_n 79 Y dX6_sums_79 rfl ?_
            refine y_geta 80 Y 49 dX6_sums_80 rfl rfl ?_
            refine y_iload_n 83 Y dX6_sums_83 rfl ?_
            refine y_iald 84 Y dX6_sums_84 rfl rfl o1 o2 (fun _ => ?_)
            refine y_if 85 103 Y dX6_sums_85 rfl rfl (fun c => ?_) (fun c => ?_)
            · replace h := h.1 c
              refine y_aload_n 103 Y dX6_sums_103 rfl ?_
              refine y_geta 104 Y 49 dX6_sums_104 rfl rfl ?_
              refine y_iload_n 107 Y dX6_sums_107 rfl ?_
              refine y_dup2 108 Y dX6_sums_108 rfl rfl ?_
              refine y_iald 109 Y dX6_sums_109 rfl rfl o1 o2 (fun _ => ?_)
              refine y_iconst 110 Y dX6_sums_110 rfl ?_
              obtain ⟨o3, h⟩ := h
              refine y_iadd 111 Y dX6_sums_111 o3 ?_
              refine y_iast 112 Y dX6_sums_112 rfl rfl o1 o2 ?_
              refine y_aload_n 113 Y dX6_sums_113 rfl ?_
              refine y_aload_n 114 Y dX6_sums_114 rfl ?_
              refine y_iload_n 115 Y dX6_sums_115 rfl ?_
              refine y_aload_n 116 Y dX6_sums_116 rfl ?_
              refine y_geta 117 Y 49 dX6_sums_117 rfl rfl ?_
              refine y_iload_n 120 Y dX6_sums_120 rfl ?_
              refine y_iald 121 Y dX6_sums_121 rfl rfl o1 o2 (fun q => ?_)
              replace h := h q
              refine y_call 122 Y (as := [mi a2, mi ((mup S 49 a1 ((S 49 a1) + 1)) 49 a1)]) [mt] dX6_sums_122 rfl rfl rfl rfl rfl h (fun r S4 hq hI hr => ?_)
              obtain ⟨v5, rfl, h⟩ := Qi_ok hq
              replace h := h hI (mokI (hr _ rfl))
              clear hq hr
              refine y_aload_n 125 Y dX6_sums_125 rfl ?_
              refine y_geta 126 Y 50 dX6_sums_126 rfl rfl ?_
              refine y_iload_n 129 Y dX6_sums_129 rfl ?_
              refine y_iald 130 Y dX6_sums_130 rfl rfl o1 o2 (fun _ => ?_)
              refine y_call 131 Y (as := [mi v5, mi (S4 50 a1)]) [] dX6_sums_131 rfl rfl rfl rfl rfl h (fun r S6 hq hI _ => ?_)
              obtain ⟨rfl, h⟩ := Qv_ok hq
              replace h := h hI
              clear hq
              refine y_iconst 134 Y dX6_sums_134 rfl ?_
              exact y_iret 135 Y dX6_sums_135 rfl h
            · replace h := h.2 c
              refine y_aload_n 88 Y dX6_sums_88 rfl ?_
              refine y_geta 89 Y 4 dX6_sums_89 rfl rfl ?_
              refine y_iload_n 92 Y dX6_sums_92 rfl ?_
              refine y_iconst 93 Y dX6_sums_93 rfl ?_
              obtain ⟨o7, h⟩ := h
              refine y_iadd 94 Y dX6_sums_94 o7 ?_
              obtain ⟨o8, h⟩ := h
              obtain ⟨o9, h⟩ := h
              refine y_iald 95 Y dX6_sums_95 rfl rfl o8 o9 (fun _ => ?_)
              refine y_iconst 96 Y dX6_sums_96 rfl ?_
              refine y_icmp 97 103 Y dX6_sums_97 rfl rfl (fun c => ?_) (fun c => ?_)
              · replace h := h.1 c
                refine y_aload_n 103 Y dX6_sums_103 rfl ?_
                refine y_geta 104 Y 49 dX6_sums_104 rfl rfl ?_
                refine y_iload_n 107 Y dX6_sums_107 rfl ?_
                refine y_dup2 108 Y dX6_sums_108 rfl rfl ?_
                refine y_iald 109 Y dX6_sums_109 rfl rfl o1 o2 (fun _ => ?_)
                refine y_iconst 110 Y dX6_sums_110 rfl ?_
                obtain ⟨o10, h⟩ := h
                refine y_iadd 111 Y dX6_sums_111 o10 ?_
                refine y_iast 112 Y dX6_sums_112 rfl rfl o1 o2 ?_
                refine y_aload_n 113 Y dX6_sums_113 rfl ?_
                refine y_aload_n 114 Y dX6_sums_114 rfl ?_
                refine y_iload_n 115 Y dX6_sums_115 rfl ?_
                refine y_aload_n 116 Y dX6_sums_116 rfl ?_
                refine y_geta 117 Y 49 dX6_sums_117 rfl rfl ?_
                refine y_iload_n 120 Y dX6_sums_120 rfl ?_
                refine y_iald 121 Y dX6_sums_121 rfl rfl o1 o2 (fun q => ?_)
                replace h := h q
                refine y_call 122 Y (as := [mi a2, mi ((mup S 49 a1 ((S 49 a1) + 1)) 49 a1)]) [mt] dX6_sums_122 rfl rfl rfl rfl rfl h (fun r S11 hq hI hr => ?_)
                obtain ⟨v12, rfl, h⟩ := Qi_ok hq
                replace h := h hI (mokI (hr _ rfl))
                clear hq hr
                refine y_aload_n 125 Y dX6_sums_125 rfl ?_
                refine y_geta 126 Y 50 dX6_sums_126 rfl rfl ?_
                refine y_iload_n 129 Y dX6_sums_129 rfl ?_
                refine y_iald 130 Y dX6_sums_130 rfl rfl o1 o2 (fun _ => ?_)
                refine y_call 131 Y (as := [mi v12, mi (S11 50 a1)]) [] dX6_sums_131 rfl rfl rfl rfl rfl h (fun r S13 hq hI _ => ?_)
                obtain ⟨rfl, h⟩ := Qv_ok hq
                replace h := h hI
                clear hq
                refine y_iconst 134 Y dX6_sums_134 rfl ?_
                exact y_iret 135 Y dX6_sums_135 rfl h
              · replace h := h.2 c
                refine y_bipush 100 Y dX6_sums_100 rfl ?_
                exact y_iret 102 Y dX6_sums_102 rfl h
          · replace h := h.2 c
            refine y_aload_n 67 Y dX6_sums_67 rfl ?_
            refine y_geta 68 Y 7 dX6_sums_68 rfl rfl ?_
            refine y_iload_n 71 Y dX6_sums_71 rfl ?_
            obtain ⟨o14, h⟩ := h
            obtain ⟨o15, h⟩ := h
            refine y_iald 72 Y dX6_sums_72 rfl rfl o14 o15 (fun _ => ?_)
            refine y_iconst 73 Y dX6_sums_73 rfl ?_
            refine y_icmp 74 79 Y dX6_sums_74 rfl rfl (fun c => ?_) (fun c => ?_)
            · replace h := h.1 c
              refine y_aload_n 79 Y dX6_sums_79 rfl ?_
              refine y_geta 80 Y 49 dX6_sums_80 rfl rfl ?_
              refine y_iload_n 83 Y dX6_sums_83 rfl ?_
              refine y_iald 84 Y dX6_sums_84 rfl rfl o1 o2 (fun _ => ?_)
              refine y_if 85 103 Y dX6_sums_85 rfl rfl (fun c => ?_) (fun c => ?_)
              · replace h := h.1 c
                refine y_aload_n 103 Y dX6_sums_103 rfl ?_
                refine y_geta 104 Y 49 dX6_sums_104 rfl rfl ?_
                refine y_iload_n 107 Y dX6_sums_107 rfl ?_
                refine y_dup2 108 Y dX6_sums_108 rfl rfl ?_
                refine y_iald 109 Y dX6_sums_109 rfl rfl o1 o2 (fun _ => ?_)
                refine y_iconst 110 Y dX6_sums_110 rfl ?_
                obtain ⟨o16, h⟩ := h
                refine y_iadd 111 Y dX6_sums_111 o16 ?_
                refine y_iast 112 Y dX6_sums_112 rfl rfl o1 o2 ?_
                refine y_aload_n 113 Y dX6_sums_113 rfl ?_
                refine y_aload_n 114 Y dX6_sums_114 rfl ?_
                refine y_iload_n 115 Y dX6_sums_115 rfl ?_
                refine y_aload_n 116 Y dX6_sums_116 rfl ?_
                refine y_geta 117 Y 49 dX6_sums_117 rfl rfl ?_
                refine y_iload_n 120 Y dX6_sums_120 rfl ?_
                refine y_iald 121 Y dX6_sums_121 rfl rfl o1 o2 (fun q => ?_)
                replace h := h q
                refine y_call 122 Y (as := [mi a2, mi ((mup S 49 a1 ((S 49 a1) + 1)) 49 a1)]) [mt] dX6_sums_122 rfl rfl rfl rfl rfl h (fun r S17 hq hI hr => ?_)
                obtain ⟨v18, rfl, h⟩ := Qi_ok hq
                replace h := h hI (mokI (hr _ rfl))
                clear hq hr
                refine y_aload_n 125 Y dX6_sums_125 rfl ?_
                refine y_geta 126 Y 50 dX6_sums_126 rfl rfl ?_
                refine y_iload_n 129 Y dX6_sums_129 rfl ?_
                refine y_iald 130 Y dX6_sums_130 rfl rfl o1 o2 (fun _ => ?_)
                refine y_call 131 Y (as := [mi v18, mi (S17 50 a1)]) [] dX6_sums_131 rfl rfl rfl rfl rfl h (fun r S19 hq hI _ => ?_)
                obtain ⟨rfl, h⟩ := Qv_ok hq
                replace h := h hI
                clear hq
                refine y_iconst 134 Y dX6_sums_134 rfl ?_
                exact y_iret 135 Y dX6_sums_135 rfl h
              · replace h := h.2 c
                refine y_aload_n 88 Y dX6_sums_88 rfl ?_
                refine y_geta 89 Y 4 dX6_sums_89 rfl rfl ?_
                refine y_iload_n 92 Y dX6_sums_92 rfl ?_
                refine y_iconst 93 Y dX6_sums_93 rfl ?_
                obtain ⟨o20, h⟩ := h
                refine y_iadd 94 Y dX6_sums_94 o20 ?_
                obtain ⟨o21, h⟩ := h
                obtain ⟨o22, h⟩ := h
                refine y_iald 95 Y dX6_sums_95 rfl rfl o21 o22 (fun _ => ?_)
                refine y_iconst 96 Y dX6_sums_96 rfl ?_
                refine y_icmp 97 103 Y dX6_sums_97 rfl rfl (fun c => ?_) (fun c => ?_)
                · replace h := h.1 c
                  refine y_aload_n 103 Y dX6_sums_103 rfl ?_
                  refine y_geta 104 Y 49 dX6_sums_104 rfl rfl ?_
                  refine y_iload_n 107 Y dX6_sums_107 rfl ?_
                  refine y_dup2 108 Y dX6_sums_108 rfl rfl ?_
                  refine y_iald 109 Y dX6_sums_109 rfl rfl o1 o2 (fun _ => ?_)
                  refine y_iconst 110 Y dX6_sums_110 rfl ?_
                  obtain ⟨o23, h⟩ := h
                  refine y_iadd 111 Y dX6_sums_111 o23 ?_
                  refine y_iast 112 Y dX6_sums_112 rfl rfl o1 o2 ?_
                  refine y_aload_n 113 Y dX6_sums_113 rfl ?_
                  refine y_aload_n 114 Y dX6_sums_114 rfl ?_
                  refine y_iload_n 115 Y dX6_sums_115 rfl ?_
                  refine y_aload_n 116 Y dX6_sums_116 rfl ?_
                  refine y_geta 117 Y 49 dX6_sums_117 rfl rfl ?_
                  refine y_iload_n 120 Y dX6_sums_120 rfl ?_
                  refine y_iald 121 Y dX6_sums_121 rfl rfl o1 o2 (fun q => ?_)
                  replace h := h q
                  refine y_call 122 Y (as := [mi a2, mi ((mup S 49 a1 ((S 49 a1) + 1)) 49 a1)]) [mt] dX6_sums_122 rfl rfl rfl rfl rfl h (fun r S24 hq hI hr => ?_)
                  obtain ⟨v25, rfl, h⟩ := Qi_ok hq
                  replace h := h hI (mokI (hr _ rfl))
                  clear hq hr
                  refine y_aload_n 125 Y dX6_sums_125 rfl ?_
                  refine y_geta 126 Y 50 dX6_sums_126 rfl rfl ?_
                  refine y_iload_n 129 Y dX6_sums_129 rfl ?_
                  refine y_iald 130 Y dX6_sums_130 rfl rfl o1 o2 (fun _ => ?_)
                  refine y_call 131 Y (as := [mi v25, mi (S24 50 a1)]) [] dX6_sums_131 rfl rfl rfl rfl rfl h (fun r S26 hq hI _ => ?_)
                  obtain ⟨rfl, h⟩ := Qv_ok hq
                  replace h := h hI
                  clear hq
                  refine y_iconst 134 Y dX6_sums_134 rfl ?_
                  exact y_iret 135 Y dX6_sums_135 rfl h
                · replace h := h.2 c
                  refine y_bipush 100 Y dX6_sums_100 rfl ?_
                  exact y_iret 102 Y dX6_sums_102 rfl h
            · replace h := h.2 c
              refine y_iconst 77 Y dX6_sums_77 rfl ?_
              exact y_iret 78 Y dX6_sums_78 rfl h
        · replace h := h.2 c
          refine y_aload_n 43 Y dX6_sums_43 rfl ?_
          refine y_call 44 Y (as := []) [] dX6_sums_44 rfl rfl rfl rfl rfl h (fun r S27 hq hI hr => ?_)
          obtain ⟨v28, rfl, h⟩ := Qi_ok hq
          replace h := h hI (mokI (hr _ rfl))
          clear hq hr
          refine y_goto 47 51 Y dX6_sums_47 rfl rfl ?_
          refine y_istore_n 51 Y [some mt, some (mi a1), some (mi a2), some (mi v28)] dX6_sums_51 rfl rfl ?_
          refine y_iload_n 52 Y dX6_sums_52 rfl ?_
          refine y_if 53 58 Y dX6_sums_53 rfl rfl (fun c => ?_) (fun c => ?_)
          · replace h := h.1 c
            refine y_aload_n 58 Y dX6_sums_58 rfl ?_
            refine y_geta 59 Y 49 dX6_sums_59 rfl rfl ?_
            refine y_iload_n 62 Y dX6_sums_62 rfl ?_
            refine y_iald 63 Y dX6_sums_63 rfl rfl o1 o2 (fun _ => ?_)
            refine y_if 64 79 Y dX6_sums_64 rfl rfl (fun c => ?_) (fun c => ?_)
            · replace h := h.1 c
              refine y_aload_n 79 Y dX6_sums_79 rfl ?_
              refine y_geta 80 Y 49 dX6_sums_80 rfl rfl ?_
              refine y_iload_n 83 Y dX6_sums_83 rfl ?_
              refine y_iald 84 Y dX6_sums_84 rfl rfl o1 o2 (fun _ => ?_)
              refine y_if 85 103 Y dX6_sums_85 rfl rfl (fun c => ?_) (fun c => ?_)
              · replace h := h.1 c
                refine y_aload_n 103 Y dX6_sums_103 rfl ?_
                refine y_geta 104 Y 49 dX6_sums_104 rfl rfl ?_
                refine y_iload_n 107 Y dX6_sums_107 rfl ?_
                refine y_dup2 108 Y dX6_sums_108 rfl rfl ?_
                refine y_iald 109 Y dX6_sums_109 rfl rfl o1 o2 (fun _ => ?_)
                refine y_iconst 110 Y dX6_sums_110 rfl ?_
                obtain ⟨o29, h⟩ := h
                refine y_iadd 111 Y dX6_sums_111 o29 ?_
                refine y_iast 112 Y dX6_sums_112 rfl rfl o1 o2 ?_
                refine y_aload_n 113 Y dX6_sums_113 rfl ?_
                refine y_aload_n 114 Y dX6_sums_114 rfl ?_
                refine y_iload_n 115 Y dX6_sums_115 rfl ?_
                refine y_aload_n 116 Y dX6_sums_116 rfl ?_
                refine y_geta 117 Y 49 dX6_sums_117 rfl rfl ?_
                refine y_iload_n 120 Y dX6_sums_120 rfl ?_
                refine y_iald 121 Y dX6_sums_121 rfl rfl o1 o2 (fun q => ?_)
                replace h := h q
                refine y_call 122 Y (as := [mi a2, mi ((mup S27 49 a1 ((S27 49 a1) + 1)) 49 a1)]) [mt] dX6_sums_122 rfl rfl rfl rfl rfl h (fun r S30 hq hI hr => ?_)
                obtain ⟨v31, rfl, h⟩ := Qi_ok hq
                replace h := h hI (mokI (hr _ rfl))
                clear hq hr
                refine y_aload_n 125 Y dX6_sums_125 rfl ?_
                refine y_geta 126 Y 50 dX6_sums_126 rfl rfl ?_
                refine y_iload_n 129 Y dX6_sums_129 rfl ?_
                refine y_iald 130 Y dX6_sums_130 rfl rfl o1 o2 (fun _ => ?_)
                refine y_call 131 Y (as := [mi v31, mi (S30 50 a1)]) [] dX6_sums_131 rfl rfl rfl rfl rfl h (fun r S32 hq hI _ => ?_)
                obtain ⟨rfl, h⟩ := Qv_ok hq
                replace h := h hI
                clear hq
                refine y_iconst 134 Y dX6_sums_134 rfl ?_
                exact y_iret 135 Y dX6_sums_135 rfl h
              · replace h := h.2 c
                refine y_aload_n 88 Y dX6_sums_88 rfl ?_
                refine y_geta 89 Y 4 dX6_sums_89 rfl rfl ?_
                refine y_iload_n 92 Y dX6_sums_92 rfl ?_
                refine y_iconst 93 Y dX6_sums_93 rfl ?_
                obtain ⟨o33, h⟩ := h
                refine y_iadd 94 Y dX6_sums_94 o33 ?_
                obtain ⟨o34, h⟩ := h
                obtain ⟨o35, h⟩ := h
                refine y_iald 95 Y dX6_sums_95 rfl rfl o34 o35 (fun _ => ?_)
                refine y_iconst 96 Y dX6_sums_96 rfl ?_
                refine y_icmp 97 103 Y dX6_sums_97 rfl rfl (fun c => ?_) (fun c => ?_)
                · replace h := h.1 c
                  refine y_aload_n 103 Y dX6_sums_103 rfl ?_
                  refine y_geta 104 Y 49 dX6_sums_104 rfl rfl ?_
                  refine y_iload_n 107 Y dX6_sums_107 rfl ?_
                  refine y_dup2 108 Y dX6_sums_108 rfl rfl ?_
                  refine y_iald 109 Y dX6_sums_109 rfl rfl o1 o2 (fun _ => ?_)
                  refine y_iconst 110 Y dX6_sums_110 rfl ?_
                  obtain ⟨o36, h⟩ := h
                  refine y_iadd 111 Y dX6_sums_111 o36 ?_
                  refine y_iast 112 Y dX6_sums_112 rfl rfl o1 o2 ?_
                  refine y_aload_n 113 Y dX6_sums_113 rfl ?_
                  refine y_aload_n 114 Y dX6_sums_114 rfl ?_
                  refine y_iload_n 115 Y dX6_sums_115 rfl ?_
                  refine y_aload_n 116 Y dX6_sums_116 rfl ?_
                  refine y_geta 117 Y 49 dX6_sums_117 rfl rfl ?_
                  refine y_iload_n 120 Y dX6_sums_120 rfl ?_
                  refine y_iald 121 Y dX6_sums_121 rfl rfl o1 o2 (fun q => ?_)
                  replace h := h q
                  refine y_call 122 Y (as := [mi a2, mi ((mup S27 49 a1 ((S27 49 a1) + 1)) 49 a1)]) [mt] dX6_sums_122 rfl rfl rfl rfl rfl h (fun r S37 hq hI hr => ?_)
                  obtain ⟨v38, rfl, h⟩ := Qi_ok hq
                  replace h := h hI (mokI (hr _ rfl))
                  clear hq hr
                  refine y_aload_n 125 Y dX6_sums_125 rfl ?_
                  refine y_geta 126 Y 50 dX6_sums_126 rfl rfl ?_
                  refine y_iload_n 129 Y dX6_sums_129 rfl ?_
                  refine y_iald 130 Y dX6_sums_130 rfl rfl o1 o2 (fun _ => ?_)
                  refine y_call 131 Y (as := [mi v38, mi (S37 50 a1)]) [] dX6_sums_131 rfl rfl rfl rfl rfl h (fun r S39 hq hI _ => ?_)
                  obtain ⟨rfl, h⟩ := Qv_ok hq
                  replace h := h hI
                  clear hq
                  refine y_iconst 134 Y dX6_sums_134 rfl ?_
                  exact y_iret 135 Y dX6_sums_135 rfl h
                · replace h := h.2 c
                  refine y_bipush 100 Y dX6_sums_100 rfl ?_
                  exact y_iret 102 Y dX6_sums_102 rfl h
            · replace h := h.2 c
              refine y_aload_n 67 Y dX6_sums_67 rfl ?_
              refine y_geta 68 Y 7 dX6_sums_68 rfl rfl ?_
              refine y_iload_n 71 Y dX6_sums_71 rfl ?_
              obtain ⟨o40, h⟩ := h
              obtain ⟨o41, h⟩ := h
              refine y_iald 72 Y dX6_sums_72 rfl rfl o40 o41 (fun _ => ?_)
              refine y_iconst 73 Y dX6_sums_73 rfl ?_
              refine y_icmp 74 79 Y dX6_sums_74 rfl rfl (fun c => ?_) (fun c => ?_)
              · replace h := h.1 c
                refine y_aload_n 79 Y dX6_sums_79 rfl ?_
                refine y_geta 80 Y 49 dX6_sums_80 rfl rfl ?_
                refine y_iload_n 83 Y dX6_sums_83 rfl ?_
                refine y_iald 84 Y dX6_sums_84 rfl rfl o1 o2 (fun _ => ?_)
                refine y_if 85 103 Y dX6_sums_85 rfl rfl (fun c => ?_) (fun c => ?_)
                · replace h := h.1 c
                  refine y_aload_n 103 Y dX6_sums_103 rfl ?_
                  refine y_geta 104 Y 49 dX6_sums_104 rfl rfl ?_
                  refine y_iload_n 107 Y dX6_sums_107 rfl ?_
                  refine y_dup2 108 Y dX6_sums_108 rfl rfl ?_
                  refine y_iald 109 Y dX6_sums_109 rfl rfl o1 o2 (fun _ => ?_)
                  refine y_iconst 110 Y dX6_sums_110 rfl ?_
                  obtain ⟨o42, h⟩ := h
                  refine y_iadd 111 Y dX6_sums_111 o42 ?_
                  refine y_iast 112 Y dX6_sums_112 rfl rfl o1 o2 ?_
                  refine y_aload_n 113 Y dX6_sums_113 rfl ?_
                  refine y_aload_n 114 Y dX6_sums_114 rfl ?_
                  refine y_iload_n 115 Y dX6_sums_115 rfl ?_
                  refine y_aload_n 116 Y dX6_sums_116 rfl ?_
                  refine y_geta 117 Y 49 dX6_sums_117 rfl rfl ?_
                  refine y_iload_n 120 Y dX6_sums_120 rfl ?_
                  refine y_iald 121 Y dX6_sums_121 rfl rfl o1 o2 (fun q => ?_)
                  replace h := h q
                  refine y_call 122 Y (as := [mi a2, mi ((mup S27 49 a1 ((S27 49 a1) + 1)) 49 a1)]) [mt] dX6_sums_122 rfl rfl rfl rfl rfl h (fun r S43 hq hI hr => ?_)
                  obtain ⟨v44, rfl, h⟩ := Qi_ok hq
                  replace h := h hI (mokI (hr _ rfl))
                  clear hq hr
                  refine y_aload_n 125 Y dX6_sums_125 rfl ?_
                  refine y_geta 126 Y 50 dX6_sums_126 rfl rfl ?_
                  refine y_iload_n 129 Y dX6_sums_129 rfl ?_
                  refine y_iald 130 Y dX6_sums_130 rfl rfl o1 o2 (fun _ => ?_)
                  refine y_call 131 Y (as := [mi v44, mi (S43 50 a1)]) [] dX6_sums_131 rfl rfl rfl rfl rfl h (fun r S45 hq hI _ => ?_)
                  obtain ⟨rfl, h⟩ := Qv_ok hq
                  replace h := h hI
                  clear hq
                  refine y_iconst 134 Y dX6_sums_134 rfl ?_
                  exact y_iret 135 Y dX6_sums_135 rfl h
                · replace h := h.2 c
                  refine y_aload_n 88 Y dX6_sums_88 rfl ?_
                  refine y_geta 89 Y 4 dX6_sums_89 rfl rfl ?_
                  refine y_iload_n 92 Y dX6_sums_92 rfl ?_
                  refine y_iconst 93 Y dX6_sums_93 rfl ?_
                  obtain ⟨o46, h⟩ := h
                  refine y_iadd 94 Y dX6_sums_94 o46 ?_
                  obtain ⟨o47, h⟩ := h
                  obtain ⟨o48, h⟩ := h
                  refine y_iald 95 Y dX6_sums_95 rfl rfl o47 o48 (fun _ => ?_)
                  refine y_iconst 96 Y dX6_sums_96 rfl ?_
                  refine y_icmp 97 103 Y dX6_sums_97 rfl rfl (fun c => ?_) (fun c => ?_)
                  · replace h := h.1 c
                    refine y_aload_n 103 Y dX6_sums_103 rfl ?_
                    refine y_geta 104 Y 49 dX6_sums_104 rfl rfl ?_
                    refine y_iload_n 107 Y dX6_sums_107 rfl ?_
                    refine y_dup2 108 Y dX6_sums_108 rfl rfl ?_
                    refine y_iald 109 Y dX6_sums_109 rfl rfl o1 o2 (fun _ => ?_)
                    refine y_iconst 110 Y dX6_sums_110 rfl ?_
                    obtain ⟨o49, h⟩ := h
                    refine y_iadd 111 Y dX6_sums_111 o49 ?_
                    refine y_iast 112 Y dX6_sums_112 rfl rfl o1 o2 ?_
                    refine y_aload_n 113 Y dX6_sums_113 rfl ?_
                    refine y_aload_n 114 Y dX6_sums_114 rfl ?_
                    refine y_iload_n 115 Y dX6_sums_115 rfl ?_
                    refine y_aload_n 116 Y dX6_sums_116 rfl ?_
                    refine y_geta 117 Y 49 dX6_sums_117 rfl rfl ?_
                    refine y_iload_n 120 Y dX6_sums_120 rfl ?_
                    refine y_iald 121 Y dX6_sums_121 rfl rfl o1 o2 (fun q => ?_)
                    replace h := h q
                    refine y_call 122 Y (as := [mi a2, mi ((mup S27 49 a1 ((S27 49 a1) + 1)) 49 a1)]) [mt] dX6_sums_122 rfl rfl rfl rfl rfl h (fun r S50 hq hI hr => ?_)
                    obtain ⟨v51, rfl, h⟩ := Qi_ok hq
                    replace h := h hI (mokI (hr _ rfl))
                    clear hq hr
                    refine y_aload_n 125 Y dX6_sums_125 rfl ?_
                    refine y_geta 126 Y 50 dX6_sums_126 rfl rfl ?_
                    refine y_iload_n 129 Y dX6_sums_129 rfl ?_
                    refine y_iald 130 Y dX6_sums_130 rfl rfl o1 o2 (fun _ => ?_)
                    refine y_call 131 Y (as := [mi v51, mi (S50 50 a1)]) [] dX6_sums_131 rfl rfl rfl rfl rfl h (fun r S52 hq hI _ => ?_)
                    obtain ⟨rfl, h⟩ := Qv_ok hq
                    replace h := h hI
                    clear hq
                    refine y_iconst 134 Y dX6_sums_134 rfl ?_
                    exact y_iret 135 Y dX6_sums_135 rfl h
                  · replace h := h.2 c
                    refine y_bipush 100 Y dX6_sums_100 rfl ?_
                    exact y_iret 102 Y dX6_sums_102 rfl h
              · replace h := h.2 c
                refine y_iconst 77 Y dX6_sums_77 rfl ?_
                exact y_iret 78 Y dX6_sums_78 rfl h
          · replace h := h.2 c
            refine y_iload_n 56 Y dX6_sums_56 rfl ?_
            exact y_iret 57 Y dX6_sums_57 rfl h
      · replace h := h.2 c
        refine y_aload_n 27 Y dX6_sums_27 rfl ?_
        refine y_iload_n 28 Y dX6_sums_28 rfl ?_
        refine y_iload_n 29 Y dX6_sums_29 rfl ?_
        refine y_call 30 Y (as := [mi a1, mi a2]) [] dX6_sums_30 rfl rfl rfl rfl rfl h (fun r S53 hq hI hr => ?_)
        obtain ⟨v54, rfl, h⟩ := Qi_ok hq
        replace h := h hI (mokI (hr _ rfl))
        clear hq hr
        exact y_iret 33 Y dX6_sums_33 rfl h
    · replace h := h.2 c
      refine y_aload_n 10 Y dX6_sums_10 rfl ?_
      refine y_iload_n 11 Y dX6_sums_11 rfl ?_
      refine y_iload_n 12 Y dX6_sums_12 rfl ?_
      refine y_call 13 Y (as := [mi a1, mi a2]) [] dX6_sums_13 rfl rfl rfl rfl rfl h (fun r S55 hq hI hr => ?_)
      obtain ⟨v56, rfl, h⟩ := Qi_ok hq
      replace h := h hI (mokI (hr _ rfl))
      clear hq hr
      exact y_iret 16 Y dX6_sums_16 rfl h
  · intro n pc L st T hi
    exact hi.elim
set_option maxHeartbeats 4000000 in
theorem of_gatherNode {g : mG} {S : mS} {a1 a2 : Int} {Qp : Option mV → mS → Prop} (I203 : Nat → Int → mS → Prop)
    (hE : mI S → (-2147483648 ≤ a1 ∧ a1 ≤ 2147483647) → (-2147483648 ≤ a2 ∧ a2 ≤ 2147483647) → (0 ≤ a1) ∧ (a1 < 20300) ∧ (((S 4 a1) = 0) → CX_clear g [mt, mi (S 68 0)] S (Qv fun S3 => mI S3 → (-2147483648 ≤ (((S3 68 0) + 1) : Int) ∧ ((S3 68 0) + 1) ≤ 2147483647) ∧ (((S3 4 a1) ≠ 0) → (((S3 5 a1) ≠ a2) → CX_coefficientAt g [mi (S 68 0), mi 0] (mup S3 68 0 ((S3 68 0) + 1)) (Qi fun v6 S5 => mI S5 → (-2147483648 ≤ v6 ∧ v6 ≤ 2147483647) → (-2147483648 ≤ (((S5 5 a1) - 97) : Int) ∧ ((S5 5 a1) - 97) ≤ 2147483647) ∧ CX_copyValue g [mt, mi v6, mi ((S5 5 a1) - 97)] S5 (Qv fun S8 => mI S8 → (((S8 5 a1) = a2) → Qp (some (mi 1)) S8) ∧ (¬ ((S8 5 a1) = a2) → (((S8 4 a1) = 0) → Qp (some (mi 1)) S8) ∧ (¬ ((S8 4 a1) = 0) → (-2147483648 ≤ (((S8 5 a1) - 97) : Int) ∧ ((S8 5 a1) - 97) ≤ 2147483647) ∧ (0 ≤ ((S8 5 a1) - 97)) ∧ (((S8 5 a1) - 97) < 26) ∧ (((S8 47 ((S8 5 a1) - 97)) = 0) → Qp (some (mi 0)) S8) ∧ (¬ ((S8 47 ((S8 5 a1) - 97)) = 0) → Qp (some (mi 1)) S8)))))) ∧ (¬ ((S3 5 a1) ≠ a2) → CX_coefficientAt g [mi (S 68 0), mi 1] (mup S3 68 0 ((S3 68 0) + 1)) (Qi fun v13 S12 => mI S12 → (-2147483648 ≤ v13 ∧ v13 ≤ 2147483647) → CX_setInt g [mt, mi v13, mi 1] S12 (Qv fun S14 => mI S14 → (((S14 5 a1) = a2) → Qp (some (mi 1)) S14) ∧ (¬ ((S14 5 a1) = a2) → (((S14 4 a1) = 0) → Qp (some (mi 1)) S14) ∧ (¬ ((S14 4 a1) = 0) → (-2147483648 ≤ (((S14 5 a1) - 97) : Int) ∧ ((S14 5 a1) - 97) ≤ 2147483647) ∧ (0 ≤ ((S14 5 a1) - 97)) ∧ (((S14 5 a1) - 97) < 26) ∧ (((S14 47 ((S14 5 a1) - 97)) = 0) → Qp (some (mi 0)) S14) ∧ (¬ ((S14 47 ((S14 5 a1) - 97)) = 0) → Qp (some (mi 1)) S14))))))) ∧ (¬ ((S3 4 a1) ≠ 0) → CX_coefficientAt g [mi (S 68 0), mi 0] (mup S3 68 0 ((S3 68 0) + 1)) (Qi fun v19 S18 => mI S18 → (-2147483648 ≤ v19 ∧ v19 ≤ 2147483647) → CX_setInt g [mt, mi v19, mi (S18 5 a1)] S18 (Qv fun S20 => mI S20 → (((S20 5 a1) = a2) → Qp (some (mi 1)) S20) ∧ (¬ ((S20 5 a1) = a2) → (((S20 4 a1) = 0) → Qp (some (mi 1)) S20) ∧ (¬ ((S20 4 a1) = 0) → (-2147483648 ≤ (((S20 5 a1) - 97) : Int) ∧ ((S20 5 a1) - 97) ≤ 2147483647) ∧ (0 ≤ ((S20 5 a1) - 97)) ∧ (((S20 5 a1) - 97) < 26) ∧ (((S20 47 ((S20 5 a1) - 97)) = 0) → Qp (some (mi 0)) S20) ∧ (¬ ((S20 47 ((S20 5 a1) - 97)) = 0) → Qp (some (mi 1)) S20)))))))) ∧ (¬ ((S 4 a1) = 0) → (((S 4 a1) ≠ 1) → CX_meaningAt g [mt, mi a1] S (Qi fun v25 S24 => mI S24 → (-2147483648 ≤ v25 ∧ v25 ≤ 2147483647) → (((S24 4 a1) = 2) → Qp (some (mi 0)) S24) ∧ (¬ ((S24 4 a1) = 2) → (((S24 7 a1) ≠ 1) → (((S24 7 a1) ≠ 2) → (∃ n1, I203 n1 0 S24)) ∧ (¬ ((S24 7 a1) ≠ 2) → CX_gatherTwo g [mt, mi a1, mi v25] S24 (Qi fun v27 S26 => mI S26 → (-2147483648 ≤ v27 ∧ v27 ≤ 2147483647) → (v27 = 0 ∨ v27 = 1) ∧ Qp (some (mi v27)) S26))) ∧ (¬ ((S24 7 a1) ≠ 1) → ((v25 = 11) → (((S24 7 a1) ≠ 2) → (∃ n1, I203 n1 0 S24)) ∧ (¬ ((S24 7 a1) ≠ 2) → CX_gatherTwo g [mt, mi a1, mi v25] S24 (Qi fun v29 S28 => mI S28 → (-2147483648 ≤ v29 ∧ v29 ≤ 2147483647) → (v29 = 0 ∨ v29 = 1) ∧ Qp (some (mi v29)) S28))) ∧ (¬ (v25 = 11) → Qp (some (mi 0)) S24))))) ∧ (¬ ((S 4 a1) ≠ 1) → CX_clear g [mt, mi (S 68 0)] S (Qv fun S30 => mI S30 → (-2147483648 ≤ (((S30 68 0) + 1) : Int) ∧ ((S30 68 0) + 1) ≤ 2147483647) ∧ (((S30 4 a1) ≠ 0) → (((S30 5 a1) ≠ a2) → CX_coefficientAt g [mi (S 68 0), mi 0] (mup S30 68 0 ((S30 68 0) + 1)) (Qi fun v33 S32 => mI S32 → (-2147483648 ≤ v33 ∧ v33 ≤ 2147483647) → (-2147483648 ≤ (((S32 5 a1) - 97) : Int) ∧ ((S32 5 a1) - 97) ≤ 2147483647) ∧ CX_copyValue g [mt, mi v33, mi ((S32 5 a1) - 97)] S32 (Qv fun S35 => mI S35 → (((S35 5 a1) = a2) → Qp (some (mi 1)) S35) ∧ (¬ ((S35 5 a1) = a2) → (((S35 4 a1) = 0) → Qp (some (mi 1)) S35) ∧ (¬ ((S35 4 a1) = 0) → (-2147483648 ≤ (((S35 5 a1) - 97) : Int) ∧ ((S35 5 a1) - 97) ≤ 2147483647) ∧ (0 ≤ ((S35 5 a1) - 97)) ∧ (((S35 5 a1) - 97) < 26) ∧ (((S35 47 ((S35 5 a1) - 97)) = 0) → Qp (some (mi 0)) S35) ∧ (¬ ((S35 47 ((S35 5 a1) - 97)) = 0) → Qp (some (mi 1)) S35)))))) ∧ (¬ ((S30 5 a1) ≠ a2) → CX_coefficientAt g [mi (S 68 0), mi 1] (mup S30 68 0 ((S30 68 0) + 1)) (Qi fun v40 S39 => mI S39 → (-2147483648 ≤ v40 ∧ v40 ≤ 2147483647) → CX_setInt g [mt, mi v40, mi 1] S39 (Qv fun S41 => mI S41 → (((S41 5 a1) = a2) → Qp (some (mi 1)) S41) ∧ (¬ ((S41 5 a1) = a2) → (((S41 4 a1) = 0) → Qp (some (mi 1)) S41) ∧ (¬ ((S41 4 a1) = 0) → (-2147483648 ≤ (((S41 5 a1) - 97) : Int) ∧ ((S41 5 a1) - 97) ≤ 2147483647) ∧ (0 ≤ ((S41 5 a1) - 97)) ∧ (((S41 5 a1) - 97) < 26) ∧ (((S41 47 ((S41 5 a1) - 97)) = 0) → Qp (some (mi 0)) S41) ∧ (¬ ((S41 47 ((S41 5 a1) - 97)) = 0) → Qp (some (mi 1)) S41))))))) ∧ (¬ ((S30 4 a1) ≠ 0) → CX_coefficientAt g [mi (S 68 0), mi 0] (mup S30 68 0 ((S30 68 0) + 1)) (Qi fun v46 S45 => mI S45 → (-2147483648 ≤ v46 ∧ v46 ≤ 2147483647) → CX_setInt g [mt, mi v46, mi (S45 5 a1)] S45 (Qv fun S47 => mI S47 → (((S47 5 a1) = a2) → Qp (some (mi 1)) S47) ∧ (¬ ((S47 5 a1) = a2) → (((S47 4 a1) = 0) → Qp (some (mi 1)) S47) ∧ (¬ ((S47 4 a1) = 0) → (-2147483648 ≤ (((S47 5 a1) - 97) : Int) ∧ ((S47 5 a1) - 97) ≤ 2147483647) ∧ (0 ≤ ((S47 5 a1) - 97)) ∧ (((S47 5 a1) - 97) < 26) ∧ (((S47 47 ((S47 5 a1) - 97)) = 0) → Qp (some (mi 0)) S47) ∧ (¬ ((S47 47 ((S47 5 a1) - 97)) = 0) → Qp (some (mi 1)) S47))))))))))
    (h203 : ∀ (n : Nat) (l4 : Int) (T : mS), mI T → (-2147483648 ≤ l4 ∧ l4 ≤ 2147483647) → I203 n l4 T → ((9 ≤ l4) → Qp (some (mi 1)) T) ∧ (¬ (9 ≤ l4) → (-2147483648 ≤ (((T 68 0) - 1) : Int) ∧ ((T 68 0) - 1) ≤ 2147483647) ∧ CX_coefficientAt g [mi ((T 68 0) - 1), mi l4] T (Qi fun v3 S2 => mI S2 → (-2147483648 ≤ v3 ∧ v3 ≤ 2147483647) → (-2147483648 ≤ ((28 * v3) : Int) ∧ (28 * v3) ≤ 2147483647) ∧ CX_sign_2 g [mt, mi v3] S2 (Qi fun v6 S5 => mI S5 → (-2147483648 ≤ v6 ∧ v6 ≤ 2147483647) → (-2147483648 ≤ ((-v6) : Int) ∧ (-v6) ≤ 2147483647) ∧ (0 ≤ (28 * v3)) ∧ ((28 * v3) < 104160) ∧ (-2147483648 ≤ ((l4 + 1) : Int) ∧ (l4 + 1) ≤ 2147483647) ∧ (∃ n1, n1 < n ∧ I203 n1 (l4 + 1) (mup S5 3 (28 * v3) (-v6)))))))
    : CX_gatherNode g [mt, mi a1, mi a2] S Qp := by
  refine cm_y ⟨by decide, rfl⟩ (by simp [mcat]) (by simp) (fun n pc L st S => (pc = 203 ∧ ∃ (l4 : Int), L = [some mt, none, none, none, some (mi l4), none] ∧ st = [] ∧ I203 n l4 S)) ?_ ?_
  · intro ha hS P Y Wk hIc
    have h := hE hS (mokI (ha (mi a1) (by simp))) (mokI (ha (mi a2) (by simp)))
    clear hE ha h203
    refine y_aload_n 0 Y dX6_gatherNode_0 rfl ?_
    refine y_geta 1 Y 4 dX6_gatherNode_1 rfl rfl ?_
    refine y_iload_n 4 Y dX6_gatherNode_4 rfl ?_
    obtain ⟨o1, h⟩ := h
    obtain ⟨o2, h⟩ := h
    refine y_iald 5 Y dX6_gatherNode_5 rfl rfl o1 o2 (fun _ => ?_)
    refine y_if 6 19 Y dX6_gatherNode_6 rfl rfl (fun c => ?_) (fun c => ?_)
    · replace h := h.1 c
      refine y_aload_n 19 Y dX6_gatherNode_19 rfl ?_
      refine y_getf 20 Y 68 dX6_gatherNode_20 rfl rfl (fun _ => ?_)
      refine y_istore_n 23 Y [some mt, some (mi a1), some (mi a2), some (mi (S 68 0)), none, none] dX6_gatherNode_23 rfl rfl ?_
      refine y_aload_n 24 Y dX6_gatherNode_24 rfl ?_
      refine y_iload_n 25 Y dX6_gatherNode_25 rfl ?_
      refine y_call 26 Y (as := [mi (S 68 0)]) [] dX6_gatherNode_26 rfl rfl rfl rfl rfl h (fun r S3 hq hI _ => ?_)
      obtain ⟨rfl, h⟩ := Qv_ok hq
      replace h := h hI
      clear hq
      refine y_aload_n 29 Y dX6_gatherNode_29 rfl ?_
      refine y_dup 30 Y dX6_gatherNode_30 rfl ?_
      refine y_getf 31 Y 68 dX6_gatherNode_31 rfl rfl (fun _ => ?_)
      refine y_iconst 34 Y dX6_gatherNode_34 rfl ?_
      obtain ⟨o4, h⟩ := h
      refine y_iadd 35 Y dX6_gatherNode_35 o4 ?_
      refine y_putf 36 Y 68 dX6_gatherNode_36 rfl rfl (fun q => absurd q (by decide)) ?_
      refine y_aload_n 39 Y dX6_gatherNode_39 rfl ?_
      refine y_geta 40 Y 4 dX6_gatherNode_40 rfl rfl ?_
      refine y_iload_n 43 Y dX6_gatherNode_43 rfl ?_
      refine y_iald 44 Y dX6_gatherNode_44 rfl rfl o1 o2 (fun _ => ?_)
      refine y_if 45 66 Y dX6_gatherNode_45 rfl rfl (fun c => ?_) (fun c => ?_)
      · replace h := h.1 c
        refine y_aload_n 66 Y dX6_gatherNode_66 rfl ?_
        refine y_geta 67 Y 5 dX6_gatherNode_67 rfl rfl ?_
        refine y_iload_n 70 Y dX6_gatherNode_70 rfl ?_
        refine y_iald 71 Y dX6_gatherNode_71 rfl rfl o1 o2 (fun _ => ?_)
        refine y_iload_n 72 Y dX6_gatherNode_72 rfl ?_
        refine y_icmp 73 89 Y dX6_gatherNode_73 rfl rfl (fun c => ?_) (fun c => ?_)
        · replace h := h.1 c
          refine y_aload_n 89 Y dX6_gatherNode_89 rfl ?_
          refine y_iload_n 90 Y dX6_gatherNode_90 rfl ?_
          refine y_iconst 91 Y dX6_gatherNode_91 rfl ?_
          refine y_calls 92 Y (as := [mi (S 68 0), mi 0]) [mt] dX6_gatherNode_92 rfl rfl rfl rfl rfl h (fun r S5 hq hI hr => ?_)
          obtain ⟨v6, rfl, h⟩ := Qi_ok hq
          replace h := h hI (mokI (hr _ rfl))
          clear hq hr
          refine y_aload_n 95 Y dX6_gatherNode_95 rfl ?_
          refine y_geta 96 Y 5 dX6_gatherNode_96 rfl rfl ?_
          refine y_iload_n 99 Y dX6_gatherNode_99 rfl ?_
          refine y_iald 100 Y dX6_gatherNode_100 rfl rfl o1 o2 (fun _ => ?_)
          refine y_bipush 101 Y dX6_gatherNode_101 rfl ?_
          obtain ⟨o7, h⟩ := h
          refine y_isub 103 Y dX6_gatherNode_103 o7 ?_
          refine y_call 104 Y (as := [mi v6, mi ((S5 5 a1) - 97)]) [] dX6_gatherNode_104 rfl rfl rfl rfl rfl h (fun r S8 hq hI _ => ?_)
          obtain ⟨rfl, h⟩ := Qv_ok hq
          replace h := h hI
          clear hq
          refine y_aload_n 107 Y dX6_gatherNode_107 rfl ?_
          refine y_geta 108 Y 5 dX6_gatherNode_108 rfl rfl ?_
          refine y_iload_n 111 Y dX6_gatherNode_111 rfl ?_
          refine y_iald 112 Y dX6_gatherNode_112 rfl rfl o1 o2 (fun _ => ?_)
          refine y_iload_n 113 Y dX6_gatherNode_113 rfl ?_
          refine y_icmp 114 143 Y dX6_gatherNode_114 rfl rfl (fun c => ?_) (fun c => ?_)
          · replace h := h.1 c
            refine y_iconst 143 Y dX6_gatherNode_143 rfl ?_
            refine y_goto 144 148 Y dX6_gatherNode_144 rfl rfl ?_
            exact y_zret 148 Y dX6_gatherNode_148 rfl (by decide) h
          · replace h := h.2 c
            refine y_aload_n 117 Y dX6_gatherNode_117 rfl ?_
            refine y_geta 118 Y 4 dX6_gatherNode_118 rfl rfl ?_
            refine y_iload_n 121 Y dX6_gatherNode_121 rfl ?_
            refine y_iald 122 Y dX6_gatherNode_122 rfl rfl o1 o2 (fun _ => ?_)
            refine y_if 123 143 Y dX6_gatherNode_123 rfl rfl (fun c => ?_) (fun c => ?_)
            · replace h := h.1 c
              refine y_iconst 143 Y dX6_gatherNode_143 rfl ?_
              refine y_goto 144 148 Y dX6_gatherNode_144 rfl rfl ?_
              exact y_zret 148 Y dX6_gatherNode_148 rfl (by decide) h
            · replace h := h.2 c
              refine y_aload_n 126 Y dX6_gatherNode_126 rfl ?_
              refine y_geta 127 Y 47 dX6_gatherNode_127 rfl rfl ?_
              refine y_aload_n 130 Y dX6_gatherNode_130 rfl ?_
              refine y_geta 131 Y 5 dX6_gatherNode_131 rfl rfl ?_
              refine y_iload_n 134 Y dX6_gatherNode_134 rfl ?_
              refine y_iald 135 Y dX6_gatherNode_135 rfl rfl o1 o2 (fun _ => ?_)
              refine y_bipush 136 Y dX6_gatherNode_136 rfl ?_
              obtain ⟨o9, h⟩ := h
              refine y_isub 138 Y dX6_gatherNode_138 o9 ?_
              obtain ⟨o10, h⟩ := h
              obtain ⟨o11, h⟩ := h
              refine y_bald 139 Y dX6_gatherNode_139 rfl rfl o10 o11 (fun _ => ?_)
              refine y_if 140 147 Y dX6_gatherNode_140 rfl rfl (fun c => ?_) (fun c => ?_)
              · replace h := h.1 c
                refine y_iconst 147 Y dX6_gatherNode_147 rfl ?_
                exact y_zret 148 Y dX6_gatherNode_148 rfl (by decide) h
              · replace h := h.2 c
                refine y_iconst 143 Y dX6_gatherNode_143 rfl ?_
                refine y_goto 144 148 Y dX6_gatherNode_144 rfl rfl ?_
                exact y_zret 148 Y dX6_gatherNode_148 rfl (by decide) h
        · replace h := h.2 c
          refine y_aload_n 76 Y dX6_gatherNode_76 rfl ?_
          refine y_iload_n 77 Y dX6_gatherNode_77 rfl ?_
          refine y_iconst 78 Y dX6_gatherNode_78 rfl ?_
          refine y_calls 79 Y (as := [mi (S 68 0), mi 1]) [mt] dX6_gatherNode_79 rfl rfl rfl rfl rfl h (fun r S12 hq hI hr => ?_)
          obtain ⟨v13, rfl, h⟩ := Qi_ok hq
          replace h := h hI (mokI (hr _ rfl))
          clear hq hr
          refine y_iconst 82 Y dX6_gatherNode_82 rfl ?_
          refine y_call 83 Y (as := [mi v13, mi 1]) [] dX6_gatherNode_83 rfl rfl rfl rfl rfl h (fun r S14 hq hI _ => ?_)
          obtain ⟨rfl, h⟩ := Qv_ok hq
          replace h := h hI
          clear hq
          refine y_goto 86 107 Y dX6_gatherNode_86 rfl rfl ?_
          refine y_aload_n 107 Y dX6_gatherNode_107 rfl ?_
          refine y_geta 108 Y 5 dX6_gatherNode_108 rfl rfl ?_
          refine y_iload_n 111 Y dX6_gatherNode_111 rfl ?_
          refine y_iald 112 Y dX6_gatherNode_112 rfl rfl o1 o2 (fun _ => ?_)
          refine y_iload_n 113 Y dX6_gatherNode_113 rfl ?_
          refine y_icmp 114 143 Y dX6_gatherNode_114 rfl rfl (fun c => ?_) (fun c => ?_)
          · replace h := h.1 c
            refine y_iconst 143 Y dX6_gatherNode_143 rfl ?_
            refine y_goto 144 148 Y dX6_gatherNode_144 rfl rfl ?_
            exact y_zret 148 Y dX6_gatherNode_148 rfl (by decide) h
          · replace h := h.2 c
            refine y_aload_n 117 Y dX6_gatherNode_117 rfl ?_
            refine y_geta 118 Y 4 dX6_gatherNode_118 rfl rfl ?_
            refine y_iload_n 121 Y dX6_gatherNode_121 rfl ?_
            refine y_iald 122 Y dX6_gatherNode_122 rfl rfl o1 o2 (fun _ => ?_)
            refine y_if 123 143 Y dX6_gatherNode_123 rfl rfl (fun c => ?_) (fun c => ?_)
            · replace h := h.1 c
              refine y_iconst 143 Y dX6_gatherNode_143 rfl ?_
              refine y_goto 144 148 Y dX6_gatherNode_144 rfl rfl ?_
              exact y_zret 148 Y dX6_gatherNode_148 rfl (by decide) h
            · replace h := h.2 c
              refine y_aload_n 126 Y dX6_gatherNode_126 rfl ?_
              refine y_geta 127 Y 47 dX6_gatherNode_127 rfl rfl ?_
              refine y_aload_n 130 Y dX6_gatherNode_130 rfl ?_
              refine y_geta 131 Y 5 dX6_gatherNode_131 rfl rfl ?_
              refine y_iload_n 134 Y dX6_gatherNode_134 rfl ?_
              refine y_iald 135 Y dX6_gatherNode_135 rfl rfl o1 o2 (fun _ => ?_)
              refine y_bipush 136 Y dX6_gatherNode_136 rfl ?_
              obtain ⟨o15, h⟩ := h
              refine y_isub 138 Y dX6_gatherNode_138 o15 ?_
              obtain ⟨o16, h⟩ := h
              obtain ⟨o17, h⟩ := h
              refine y_bald 139 Y dX6_gatherNode_139 rfl rfl o16 o17 (fun _ => ?_)
              refine y_if 140 147 Y dX6_gatherNode_140 rfl rfl (fun c => ?_) (fun c => ?_)
              · replace h := h.1 c
                refine y_iconst 147 Y dX6_gatherNode_147 rfl ?_
                exact y_zret 148 Y dX6_gatherNode_148 rfl (by decide) h
              · replace h := h.2 c
                refine y_iconst 143 Y dX6_gatherNode_143 rfl ?_
                refine y_goto 144 148 Y dX6_gatherNode_144 rfl rfl ?_
                exact y_zret 148 Y dX6_gatherNode_148 rfl (by decide) h
      · replace h := h.2 c
        refine y_aload_n 48 Y dX6_gatherNode_48 rfl ?_
        refine y_iload_n 49 Y dX6_gatherNode_49 rfl ?_
        refine y_iconst 50 Y dX6_gatherNode_50 rfl ?_
        refine y_calls 51 Y (as := [mi (S 68 0), mi 0]) [mt] dX6_gatherNode_51 rfl rfl rfl rfl rfl h (fun r S18 hq hI hr => ?_)
        obtain ⟨v19, rfl, h⟩ := Qi_ok hq
        replace h := h hI (mokI (hr _ rfl))
        clear hq hr
        refine y_aload_n 54 Y dX6_gatherNode_54 rfl ?_
        refine y_geta 55 Y 5 dX6_gatherNode_55 rfl rfl ?_
        refine y_iload_n 58 Y dX6_gatherNode_58 rfl ?_
        refine y_iald 59 Y dX6_gatherNode_59 rfl rfl o1 o2 (fun _ => ?_)
        refine y_call 60 Y (as := [mi v19, mi (S18 5 a1)]) [] dX6_gatherNode_60 rfl rfl rfl rfl rfl h (fun r S20 hq hI _ => ?_)
        obtain ⟨rfl, h⟩ := Qv_ok hq
        replace h := h hI
        clear hq
        refine y_goto 63 107 Y dX6_gatherNode_63 rfl rfl ?_
        refine y_aload_n 107 Y dX6_gatherNode_107 rfl ?_
        refine y_geta 108 Y 5 dX6_gatherNode_108 rfl rfl ?_
        refine y_iload_n 111 Y dX6_gatherNode_111 rfl ?_
        refine y_iald 112 Y dX6_gatherNode_112 rfl rfl o1 o2 (fun _ => ?_)
        refine y_iload_n 113 Y dX6_gatherNode_113 rfl ?_
        refine y_icmp 114 143 Y dX6_gatherNode_114 rfl rfl (fun c => ?_) (fun c => ?_)
        · replace h := h.1 c
          refine y_iconst 143 Y dX6_gatherNode_143 rfl ?_
          refine y_goto 144 148 Y dX6_gatherNode_144 rfl rfl ?_
          exact y_zret 148 Y dX6_gatherNode_148 rfl (by decide) h
        · replace h := h.2 c
          refine y_aload_n 117 Y dX6_gatherNode_117 rfl ?_
          refine y_geta 118 Y 4 dX6_gatherNode_118 rfl rfl ?_
          refine y_iload_n 121 Y dX6_gatherNode_121 rfl ?_
          refine y_iald 122 Y dX6_gatherNode_122 rfl rfl o1 o2 (fun _ => ?_)
          refine y_if 123 143 Y dX6_gatherNode_123 rfl rfl (fun c => ?_) (fun c => ?_)
          · replace h := h.1 c
            refine y_iconst 143 Y dX6_gatherNode_143 rfl ?_
            refine y_goto 144 148 Y dX6_gatherNode_144 rfl rfl ?_
            exact y_zret 148 Y dX6_gatherNode_148 rfl (by decide) h
          · replace h := h.2 c
            refine y_aload_n 126 Y dX6_gatherNode_126 rfl ?_
            refine y_geta 127 Y 47 dX6_gatherNode_127 rfl rfl ?_
            refine y_aload_n 130 Y dX6_gatherNode_130 rfl ?_
            refine y_geta 131 Y 5 dX6_gatherNode_131 rfl rfl ?_
            refine y_iload_n 134 Y dX6_gatherNode_134 rfl ?_
            refine y_iald 135 Y dX6_gatherNode_135 rfl rfl o1 o2 (fun _ => ?_)
            refine y_bipush 136 Y dX6_gatherNode_136 rfl ?_
            obtain ⟨o21, h⟩ := h
            refine y_isub 138 Y dX6_gatherNode_138 o21 ?_
            obtain ⟨o22, h⟩ := h
            obtain ⟨o23, h⟩ := h
            refine y_bald 139 Y dX6_gatherNode_139 rfl rfl o22 o23 (fun _ => ?_)
            refine y_if 140 147 Y dX6_gatherNode_140 rfl rfl (fun c => ?_) (fun c => ?_)
            · replace h := h.1 c
              refine y_iconst 147 Y dX6_gatherNode_147 rfl ?_
              exact y_zret 148 Y dX6_gatherNode_148 rfl (by decide) h
            · replace h := h.2 c
              refine y_iconst 143 Y dX6_gatherNode_143 rfl ?_
              refine y_goto 144 148 Y dX6_gatherNode_144 rfl rfl ?_
              exact y_zret 148 Y dX6_gatherNode_148 rfl (by decide) h
    · replace h := h.2 c
      refine y_aload_n 9 Y dX6_gatherNode_9 rfl ?_
      refine y_geta 10 Y 4 dX6_gatherNode_10 rfl rfl ?_
      refine y_iload_n 13 Y dX6_gatherNode_13 rfl ?_
      refine y_iald 14 Y dX6_gatherNode_14 rfl rfl o1 o2 (fun _ => ?_)
      refine y_iconst 15 Y dX6_gatherNode_15 rfl ?_
      refine y_icmp 16 149 Y dX6_gatherNode_16 rfl rfl (fun c => ?_) (fun c => ?_)
      · replace h := h.1 c
        refine y_aload_n 149 Y dX6_gatherNode_149 rfl ?_
        refine y_iload_n 150 Y dX6_gatherNode_150 rfl ?_
        refine y_call 151 Y (as := [mi a1]) [] dX6_gatherNode_151 rfl rfl rfl rfl rfl h (fun r S24 hq hI hr => ?_)
        obtain ⟨v25, rfl, h⟩ := Qi_ok hq
        replace h := h hI (mokI (hr _ rfl))
        clear hq hr
        refine y_istore_n 154 Y [some mt, some (mi a1), some (mi a2), some (mi v25), none, none] dX6_gatherNode_154 rfl rfl ?_
        refine y_aload_n 155 Y dX6_gatherNode_155 rfl ?_
        refine y_geta 156 Y 4 dX6_gatherNode_156 rfl rfl ?_
        refine y_iload_n 159 Y dX6_gatherNode_159 rfl ?_
        refine y_iald 160 Y dX6_gatherNode_160 rfl rfl o1 o2 (fun _ => ?_)
        refine y_iconst 161 Y dX6_gatherNode_161 rfl ?_
        refine y_icmp 162 181 Y dX6_gatherNode_162 rfl rfl (fun c => ?_) (fun c => ?_)
        · replace h := h.1 c
          refine y_iconst 181 Y dX6_gatherNode_181 rfl ?_
          exact y_zret 182 Y dX6_gatherNode_182 rfl (by decide) h
        · replace h := h.2 c
          refine y_aload_n 165 Y dX6_gatherNode_165 rfl ?_
          refine y_geta 166 Y 7 dX6_gatherNode_166 rfl rfl ?_
          refine y_iload_n 169 Y dX6_gatherNode_169 rfl ?_
          refine y_iald 170 Y dX6_gatherNode_170 rfl rfl o1 o2 (fun _ => ?_)
          refine y_iconst 171 Y dX6_gatherNode_171 rfl ?_
          refine y_icmp 172 183 Y dX6_gatherNode_172 rfl rfl (fun c => ?_) (fun c => ?_)
          · replace h := h.1 c
            refine y_aload_n 183 Y dX6_gatherNode_183 rfl ?_
            refine y_geta 184 Y 7 dX6_gatherNode_184 rfl rfl ?_
            refine y_iload_n 187 Y dX6_gatherNode_187 rfl ?_
            refine y_iald 188 Y dX6_gatherNode_188 rfl rfl o1 o2 (fun _ => ?_)
            refine y_iconst 189 Y dX6_gatherNode_189 rfl ?_
            refine y_icmp 190 200 Y dX6_gatherNode_190 rfl rfl (fun c => ?_) (fun c => ?_)
            · replace h := h.1 c
              refine y_iconst 200 Y dX6_gatherNode_200 rfl ?_
              refine y_istore 201 Y [some mt, some (mi a1), some (mi a2), some (mi v25), some (mi 0), none] dX6_gatherNode_201 rfl rfl ?_
              obtain ⟨n1, h⟩ := h
              exact Wk 203 _ [some mt, none, none, none, some (mi 0), none] _ _ ⟨rfl, ⟨rfl, trivial⟩⟩ (hIc n1 _ _ _ _ ((⟨rfl, _, rfl, rfl, h⟩)))
            · replace h := h.2 c
              refine y_aload_n 193 Y dX6_gatherNode_193 rfl ?_
              refine y_iload_n 194 Y dX6_gatherNode_194 rfl ?_
              refine y_iload_n 195 Y dX6_gatherNode_195 rfl ?_
              refine y_call 196 Y (as := [mi a1, mi v25]) [] dX6_gatherNode_196 rfl rfl rfl rfl rfl h (fun r S26 hq hI hr => ?_)
              obtain ⟨v27, rfl, h⟩ := Qi_ok hq
              replace h := h hI (mokI (hr _ rfl))
              clear hq hr
              exact y_zret 199 Y dX6_gatherNode_199 rfl h.1 h.2
          · replace h := h.2 c
            refine y_iload_n 175 Y dX6_gatherNode_175 rfl ?_
            refine y_bipush 176 Y dX6_gatherNode_176 rfl ?_
            refine y_icmp 178 183 Y dX6_gatherNode_178 rfl rfl (fun c => ?_) (fun c => ?_)
            · replace h := h.1 c
              refine y_aload_n 183 Y dX6_gatherNode_183 rfl ?_
              refine y_geta 184 Y 7 dX6_gatherNode_184 rfl rfl ?_
              refine y_iload_n 187 Y dX6_gatherNode_187 rfl ?_
              refine y_iald 188 Y dX6_gatherNode_188 rfl rfl o1 o2 (fun _ => ?_)
              refine y_iconst 189 Y dX6_gatherNode_189 rfl ?_
              refine y_icmp 190 200 Y dX6_gatherNode_190 rfl rfl (fun c => ?_) (fun c => ?_)
              · replace h := h.1 c
                refine y_iconst 200 Y dX6_gatherNode_200 rfl ?_
                refine y_istore 201 Y [some mt, some (mi a1), some (mi a2), some (mi v25), some (mi 0), none] dX6_gatherNode_201 rfl rfl ?_
                obtain ⟨n1, h⟩ := h
                exact Wk 203 _ [some mt, none, none, none, some (mi 0), none] _ _ ⟨rfl, ⟨rfl, trivial⟩⟩ (hIc n1 _ _ _ _ ((⟨rfl, _, rfl, rfl, h⟩)))
              · replace h := h.2 c
                refine y_aload_n 193 Y dX6_gatherNode_193 rfl ?_
                refine y_iload_n 194 Y dX6_gatherNode_194 rfl ?_
                refine y_iload_n 195 Y dX6_gatherNode_195 rfl ?_
                refine y_call 196 Y (as := [mi a1, mi v25]) [] dX6_gatherNode_196 rfl rfl rfl rfl rfl h (fun r S28 hq hI hr => ?_)
                obtain ⟨v29, rfl, h⟩ := Qi_ok hq
                replace h := h hI (mokI (hr _ rfl))
                clear hq hr
                exact y_zret 199 Y dX6_gatherNode_199 rfl h.1 h.2
            · replace h := h.2 c
              refine y_iconst 181 Y dX6_gatherNode_181 rfl ?_
              exact y_zret 182 Y dX6_gatherNode_182 rfl (by decide) h
      · replace h := h.2 c
        refine y_aload_n 19 Y dX6_gatherNode_19 rfl ?_
        refine y_getf 20 Y 68 dX6_gatherNode_20 rfl rfl (fun _ => ?_)
        refine y_istore_n 23 Y [some mt, some (mi a1), some (mi a2), some (mi (S 68 0)), none, none] dX6_gatherNode_23 rfl rfl ?_
        refine y_aload_n 24 Y dX6_gatherNode_24 rfl ?_
        refine y_iload_n 25 Y dX6_gatherNode_25 rfl ?_
        refine y_call 26 Y (as := [mi (S 68 0)]) [] dX6_gatherNode_26 rfl rfl rfl rfl rfl h (fun r S30 hq hI _ => ?_)
        obtain ⟨rfl, h⟩ := Qv_ok hq
        replace h := h hI
        clear hq
        refine y_aload_n 29 Y dX6_gatherNode_29 rfl ?_
        refine y_dup 30 Y dX6_gatherNode_30 rfl ?_
        refine y_getf 31 Y 68 dX6_gatherNode_31 rfl rfl (fun _ => ?_)
        refine y_iconst 34 Y dX6_gatherNode_34 rfl ?_
        obtain ⟨o31, h⟩ := h
        refine y_iadd 35 Y dX6_gatherNode_35 o31 ?_
        refine y_putf 36 Y 68 dX6_gatherNode_36 rfl rfl (fun q => absurd q (by decide)) ?_
        refine y_aload_n 39 Y dX6_gatherNode_39 rfl ?_
        refine y_geta 40 Y 4 dX6_gatherNode_40 rfl rfl ?_
        refine y_iload_n 43 Y dX6_gatherNode_43 rfl ?_
        refine y_iald 44 Y dX6_gatherNode_44 rfl rfl o1 o2 (fun _ => ?_)
        refine y_if 45 66 Y dX6_gatherNode_45 rfl rfl (fun c => ?_) (fun c => ?_)
        · replace h := h.1 c
          refine y_aload_n 66 Y dX6_gatherNode_66 rfl ?_
          refine y_geta 67 Y 5 dX6_gatherNode_67 rfl rfl ?_
          refine y_iload_n 70 Y dX6_gatherNode_70 rfl ?_
          refine y_iald 71 Y dX6_gatherNode_71 rfl rfl o1 o2 (fun _ => ?_)
          refine y_iload_n 72 Y dX6_gatherNode_72 rfl ?_
          refine y_icmp 73 89 Y dX6_gatherNode_73 rfl rfl (fun c => ?_) (fun c => ?_)
          · replace h := h.1 c
            refine y_aload_n 89 Y dX6_gatherNode_89 rfl ?_
            refine y_iload_n 90 Y dX6_gatherNode_90 rfl ?_
            refine y_iconst 91 Y dX6_gatherNode_91 rfl ?_
            refine y_calls 92 Y (as := [mi (S 68 0), mi 0]) [mt] dX6_gatherNode_92 rfl rfl rfl rfl rfl h (fun r S32 hq hI hr => ?_)
            obtain ⟨v33, rfl, h⟩ := Qi_ok hq
            replace h := h hI (mokI (hr _ rfl))
            clear hq hr
            refine y_aload_n 95 Y dX6_gatherNode_95 rfl ?_
            refine y_geta 96 Y 5 dX6_gatherNode_96 rfl rfl ?_
            refine y_iload_n 99 Y dX6_gatherNode_99 rfl ?_
            refine y_iald 100 Y dX6_gatherNode_100 rfl rfl o1 o2 (fun _ => ?_)
            refine y_bipush 101 Y dX6_gatherNode_101 rfl ?_
            obtain ⟨o34, h⟩ := h
            refine y_isub 103 Y dX6_gatherNode_103 o34 ?_
            refine y_call 104 Y (as := [mi v33, mi ((S32 5 a1) - 97)]) [] dX6_gatherNode_104 rfl rfl rfl rfl rfl h (fun r S35 hq hI _ => ?_)
            obtain ⟨rfl, h⟩ := Qv_ok hq
            replace h := h hI
            clear hq
            refine y_aload_n 107 Y dX6_gatherNode_107 rfl ?_
            refine y_geta 108 Y 5 dX6_gatherNode_108 rfl rfl ?_
            refine y_iload_n 111 Y dX6_gatherNode_111 rfl ?_
            refine y_iald 112 Y dX6_gatherNode_112 rfl rfl o1 o2 (fun _ => ?_)
            refine y_iload_n 113 Y dX6_gatherNode_113 rfl ?_
            refine y_icmp 114 143 Y dX6_gatherNode_114 rfl rfl (fun c => ?_) (fun c => ?_)
            · replace h := h.1 c
              refine y_iconst 143 Y dX6_gatherNode_143 rfl ?_
              refine y_goto 144 148 Y dX6_gatherNode_144 rfl rfl ?_
              exact y_zret 148 Y dX6_gatherNode_148 rfl (by decide) h
            · replace h := h.2 c
              refine y_aload_n 117 Y dX6_gatherNode_117 rfl ?_
              refine y_geta 118 Y 4 dX6_gatherNode_118 rfl rfl ?_
              refine y_iload_n 121 Y dX6_gatherNode_121 rfl ?_
              refine y_iald 122 Y dX6_gatherNode_122 rfl rfl o1 o2 (fun _ => ?_)
              refine y_if 123 143 Y dX6_gatherNode_123 rfl rfl (fun c => ?_) (fun c => ?_)
              · replace h := h.1 c
                refine y_iconst 143 Y dX6_gatherNode_143 rfl ?_
                refine y_goto 144 148 Y dX6_gatherNode_144 rfl rfl ?_
                exact y_zret 148 Y dX6_gatherNode_148 rfl (by decide) h
              · replace h := h.2 c
                refine y_aload_n 126 Y dX6_gatherNode_126 rfl ?_
                refine y_geta 127 Y 47 dX6_gatherNode_127 rfl rfl ?_
                refine y_aload_n 130 Y dX6_gatherNode_130 rfl ?_
                refine y_geta 131 Y 5 dX6_gatherNode_131 rfl rfl ?_
                refine y_iload_n 134 Y dX6_gatherNode_134 rfl ?_
                refine y_iald 135 Y dX6_gatherNode_135 rfl rfl o1 o2 (fun _ => ?_)
                refine y_bipush 136 Y dX6_gatherNode_136 rfl ?_
                obtain ⟨o36, h⟩ := h
                refine y_isub 138 Y dX6_gatherNode_138 o36 ?_
                obtain ⟨o37, h⟩ := h
                obtain ⟨o38, h⟩ := h
                refine y_bald 139 Y dX6_gatherNode_139 rfl rfl o37 o38 (fun _ => ?_)
                refine y_if 140 147 Y dX6_gatherNode_140 rfl rfl (fun c => ?_) (fun c => ?_)
                · replace h := h.1 c
                  refine y_iconst 147 Y dX6_gatherNode_147 rfl ?_
                  exact y_zret 148 Y dX6_gatherNode_148 rfl (by decide) h
                · replace h := h.2 c
                  refine y_iconst 143 Y dX6_gatherNode_143 rfl ?_
                  refine y_goto 144 148 Y dX6_gatherNode_144 rfl rfl ?_
                  exact y_zret 148 Y dX6_gatherNode_148 rfl (by decide) h
          · replace h := h.2 c
            refine y_aload_n 76 Y dX6_gatherNode_76 rfl ?_
            refine y_iload_n 77 Y dX6_gatherNode_77 rfl ?_
            refine y_iconst 78 Y dX6_gatherNode_78 rfl ?_
            refine y_calls 79 Y (as := [mi (S 68 0), mi 1]) [mt] dX6_gatherNode_79 rfl rfl rfl rfl rfl h (fun r S39 hq hI hr => ?_)
            obtain ⟨v40, rfl, h⟩ := Qi_ok hq
            replace h := h hI (mokI (hr _ rfl))
            clear hq hr
            refine y_iconst 82 Y dX6_gatherNode_82 rfl ?_
            refine y_call 83 Y (as := [mi v40, mi 1]) [] dX6_gatherNode_83 rfl rfl rfl rfl rfl h (fun r S41 hq hI _ => ?_)
            obtain ⟨rfl, h⟩ := Qv_ok hq
            replace h := h hI
            clear hq
            refine y_goto 86 107 Y dX6_gatherNode_86 rfl rfl ?_
            refine y_aload_n 107 Y dX6_gatherNode_107 rfl ?_
            refine y_geta 108 Y 5 dX6_gatherNode_108 rfl rfl ?_
            refine y_iload_n 111 Y dX6_gatherNode_111 rfl ?_
            refine y_iald 112 Y dX6_gatherNode_112 rfl rfl o1 o2 (fun _ => ?_)
            refine y_iload_n 113 Y dX6_gatherNode_113 rfl ?_
            refine y_icmp 114 143 Y dX6_gatherNode_114 rfl rfl (fun c => ?_) (fun c => ?_)
            · replace h := h.1 c
              refine y_iconst 143 Y dX6_gatherNode_143 rfl ?_
              refine y_goto 144 148 Y dX6_gatherNode_144 rfl rfl ?_
              exact y_zret 148 Y dX6_gatherNode_148 rfl (by decide) h
            · replace h := h.2 c
              refine y_aload_n 117 Y dX6_gatherNode_117 rfl ?_
              refine y_geta 118 Y 4 dX6_gatherNode_118 rfl rfl ?_
              refine y_iload_n 121 Y dX6_gatherNode_121 rfl ?_
              refine y_iald 122 Y dX6_gatherNode_122 rfl rfl o1 o2 (fun _ => ?_)
              refine y_if 123 143 Y dX6_gatherNode_123 rfl rfl (fun c => ?_) (fun c => ?_)
              · replace h := h.1 c
                refine y_iconst 143 Y dX6_gatherNode_143 rfl ?_
                refine y_goto 144 148 Y dX6_gatherNode_144 rfl rfl ?_
                exact y_zret 148 Y dX6_gatherNode_148 rfl (by decide) h
              · replace h := h.2 c
                refine y_aload_n 126 Y dX6_gatherNode_126 rfl ?_
                refine y_geta 127 Y 47 dX6_gatherNode_127 rfl rfl ?_
                refine y_aload_n 130 Y dX6_gatherNode_130 rfl ?_
                refine y_geta 131 Y 5 dX6_gatherNode_131 rfl rfl ?_
                refine y_iload_n 134 Y dX6_gatherNode_134 rfl ?_
                refine y_iald 135 Y dX6_gatherNode_135 rfl rfl o1 o2 (fun _ => ?_)
                refine y_bipush 136 Y dX6_gatherNode_136 rfl ?_
                obtain ⟨o42, h⟩ := h
                refine y_isub 138 Y dX6_gatherNode_138 o42 ?_
                obtain ⟨o43, h⟩ := h
                obtain ⟨o44, h⟩ := h
                refine y_bald 139 Y dX6_gatherNode_139 rfl rfl o43 o44 (fun _ => ?_)
                refine y_if 140 147 Y dX6_gatherNode_140 rfl rfl (fun c => ?_) (fun c => ?_)
                · replace h := h.1 c
                  refine y_iconst 147 Y dX6_gatherNode_147 rfl ?_
                  exact y_zret 148 Y dX6_gatherNode_148 rfl (by decide) h
                · replace h := h.2 c
                  refine y_iconst 143 Y dX6_gatherNode_143 rfl ?_
                  refine y_goto 144 148 Y dX6_gatherNode_144 rfl rfl ?_
                  exact y_zret 148 Y dX6_gatherNode_148 rfl (by decide) h
        · replace h := h.2 c
          refine y_aload_n 48 Y dX6_gatherNode_48 rfl ?_
          refine y_iload_n 49 Y dX6_gatherNode_49 rfl ?_
          refine y_iconst 50 Y dX6_gatherNode_50 rfl ?_
          refine y_calls 51 Y (as := [mi (S 68 0), mi 0]) [mt] dX6_gatherNode_51 rfl rfl rfl rfl rfl h (fun r S45 hq hI hr => ?_)
          obtain ⟨v46, rfl, h⟩ := Qi_ok hq
          replace h := h hI (mokI (hr _ rfl))
          clear hq hr
          refine y_aload_n 54 Y dX6_gatherNode_54 rfl ?_
          refine y_geta 55 Y 5 dX6_gatherNode_55 rfl rfl ?_
          refine y_iload_n 58 Y dX6_gatherNode_58 rfl ?_
          refine y_iald 59 Y dX6_gatherNode_59 rfl rfl o1 o2 (fun _ => ?_)
          refine y_call 60 Y (as := [mi v46, mi (S45 5 a1)]) [] dX6_gatherNode_60 rfl rfl rfl rfl rfl h (fun r S47 hq hI _ => ?_)
          obtain ⟨rfl, h⟩ := Qv_ok hq
          replace h := h hI
          clear hq
          refine y_goto 63 107 Y dX6_gatherNode_63 rfl rfl ?_
          refine y_aload_n 107 Y dX6_gatherNode_107 rfl ?_
          refine y_geta 108 Y 5 dX6_gatherNode_108 rfl rfl ?_
          refine y_iload_n 111 Y dX6_gatherNode_111 rfl ?_
          refine y_iald 112 Y dX6_gatherNode_112 rfl rfl o1 o2 (fun _ => ?_)
          refine y_iload_n 113 Y dX6_gatherNode_113 rfl ?_
          refine y_icmp 114 143 Y dX6_gatherNode_114 rfl rfl (fun c => ?_) (fun c => ?_)
          · replace h := h.1 c
            refine y_iconst 143 Y dX6_gatherNode_143 rfl ?_
            refine y_goto 144 148 Y dX6_gatherNode_144 rfl rfl ?_
            exact y_zret 148 Y dX6_gatherNode_148 rfl (by decide) h
          · replace h := h.2 c
            refine y_aload_n 117 Y dX6_gatherNode_117 rfl ?_
            refine y_geta 118 Y 4 dX6_gatherNode_118 rfl rfl ?_
            refine y_iload_n 121 Y dX6_gatherNode_121 rfl ?_
            refine y_iald 122 Y dX6_gatherNode_122 rfl rfl o1 o2 (fun _ => ?_)
            refine y_if 123 143 Y dX6_gatherNode_123 rfl rfl (fun c => ?_) (fun c => ?_)
            · replace h := h.1 c
              refine y_iconst 143 Y dX6_gatherNode_143 rfl ?_
              refine y_goto 144 148 Y dX6_gatherNode_144 rfl rfl ?_
              exact y_zret 148 Y dX6_gatherNode_148 rfl (by decide) h
            · replace h := h.2 c
              refine y_aload_n 126 Y dX6_gatherNode_126 rfl ?_
              refine y_geta 127 Y 47 dX6_gatherNode_127 rfl rfl ?_
              refine y_aload_n 130 Y dX6_gatherNode_130 rfl ?_
              refine y_geta 131 Y 5 dX6_gatherNode_131 rfl rfl ?_
              refine y_iload_n 134 Y dX6_gatherNode_134 rfl ?_
              refine y_iald 135 Y dX6_gatherNode_135 rfl rfl o1 o2 (fun _ => ?_)
              refine y_bipush 136 Y dX6_gatherNode_136 rfl ?_
              obtain ⟨o48, h⟩ := h
              refine y_isub 138 Y dX6_gatherNode_138 o48 ?_
              obtain ⟨o49, h⟩ := h
              obtain ⟨o50, h⟩ := h
              refine y_bald 139 Y dX6_gatherNode_139 rfl rfl o49 o50 (fun _ => ?_)
              refine y_if 140 147 Y dX6_gatherNode_140 rfl rfl (fun c => ?_) (fun c => ?_)
              · replace h := h.1 c
                refine y_iconst 147 Y dX6_gatherNode_147 rfl ?_
                exact y_zret 148 Y dX6_gatherNode_148 rfl (by decide) h
              · replace h := h.2 c
                refine y_iconst 143 Y dX6_gatherNode_143 rfl ?_
                refine y_goto 144 148 Y dX6_gatherNode_144 rfl rfl ?_
                exact y_zret 148 Y dX6_gatherNode_148 rfl (by decide) h
  · intro n pc L st T hi hS hL P Y Wk hIc
    clear hE
    rcases hi with ⟨rfl, l4, rfl, rfl, hi⟩
    · have h := h203 n l4 T hS (hL 4 _ rfl) hi
      clear hL hi h203
      refine y_iload 203 Y dX6_gatherNode_203 rfl ?_
      refine y_bipush 205 Y dX6_gatherNode_205 rfl ?_
      refine y_icmp 207 246 Y dX6_gatherNode_207 rfl rfl (fun c => ?_) (fun c => ?_)
      · replace h := h.1 c
        refine y_iconst 246 Y dX6_gatherNode_246 rfl ?_
        exact y_zret 247 Y dX6_gatherNode_247 rfl (by decide) h
      · replace h := h.2 c
        refine y_aload_n 210 Y dX6_gatherNode_210 rfl ?_
        refine y_getf 211 Y 68 dX6_gatherNode_211 rfl rfl (fun _ => ?_)
        refine y_iconst 214 Y dX6_gatherNode_214 rfl ?_
        obtain ⟨o1, h⟩ := h
        refine y_isub 215 Y dX6_gatherNode_215 o1 ?_
        refine y_iload 216 Y dX6_gatherNode_216 rfl ?_
        refine y_calls 218 Y (as := [mi ((T 68 0) - 1), mi l4]) [] dX6_gatherNode_218 rfl rfl rfl rfl rfl h (fun r S2 hq hI hr => ?_)
        obtain ⟨v3, rfl, h⟩ := Qi_ok hq
        replace h := h hI (mokI (hr _ rfl))
        clear hq hr
        refine y_istore 221 Y [some mt, none, none, none, some (mi l4), some (mi v3)] dX6_gatherNode_221 rfl rfl ?_
        refine y_aload_n 223 Y dX6_gatherNode_223 rfl ?_
        refine y_geta 224 Y 3 dX6_gatherNode_224 rfl rfl ?_
        refine y_bipush 227 Y dX6_gatherNode_227 rfl ?_
        refine y_iload 229 Y dX6_gatherNode_229 rfl ?_
        obtain ⟨o4, h⟩ := h
        refine y_imul 231 Y dX6_gatherNode_231 o4 ?_
        refine y_aload_n 232 Y dX6_gatherNode_232 rfl ?_
        refine y_iload 233 Y dX6_gatherNode_233 rfl ?_
        refine y_call 235 Y (as := [mi v3]) [mi (28 * v3), mr 3] dX6_gatherNode_235 rfl rfl rfl rfl rfl h (fun r S5 hq hI hr => ?_)
        obtain ⟨v6, rfl, h⟩ := Qi_ok hq
        replace h := h hI (mokI (hr _ rfl))
        clear hq hr
        obtain ⟨o7, h⟩ := h
        refine y_ineg 238 Y dX6_gatherNode_238 o7 ?_
        obtain ⟨o8, h⟩ := h
        obtain ⟨o9, h⟩ := h
        refine y_iast 239 Y dX6_gatherNode_239 rfl rfl o8 o9 ?_
        obtain ⟨o10, h⟩ := h
        refine y_iinc 240 Y [some mt, none, none, none, some (mi (l4 + 1)), some (mi v3)] dX6_gatherNode_240 rfl rfl o10 ?_
        refine y_goto 243 203 Y dX6_gatherNode_243 rfl rfl ?_
        obtain ⟨n1, hn, h⟩ := h
        exact Wk 203 _ [some mt, none, none, none, some (mi (l4 + 1)), none] _ _ ⟨rfl, ⟨rfl, trivial⟩⟩ (hIc n1 _ _ _ _ hn ((⟨rfl, _, rfl, rfl, h⟩)))
set_option maxHeartbeats 4000000 in
theorem of_isPrinted {g : mG} {S : mS} {a1 : Int} {Qp : Option mV → mS → Prop} (I13 : Nat → Int → Int → Int → mS → Prop)
    (hE : mI S → (-2147483648 ≤ a1 ∧ a1 ≤ 2147483647) → CX_fewest g [mt, mi a1] S (Qv fun S1 => mI S1 → CX_makes g [mt, mi a1] S1 (Qi fun v3 S2 => mI S2 → (-2147483648 ≤ v3 ∧ v3 ≤ 2147483647) → (∃ n1, I13 n1 a1 v3 0 S2))))
    (h13 : ∀ (n : Nat) (l1 l2 l3 : Int) (T : mS), mI T → (-2147483648 ≤ l1 ∧ l1 ≤ 2147483647) → (-2147483648 ≤ l2 ∧ l2 ≤ 2147483647) → (-2147483648 ≤ l3 ∧ l3 ≤ 2147483647) → I13 n l1 l2 l3 T → (((T 25 0) ≤ l3) → (l2 = 0 ∨ l2 = 1) ∧ Qp (some (mi l2)) T) ∧ (¬ ((T 25 0) ≤ l3) → ((l2 = 0) → (l2 = 0 ∨ l2 = 1) ∧ Qp (some (mi l2)) T) ∧ (¬ (l2 = 0) → (0 ≤ l3) ∧ (l3 < 1000) ∧ (((T 23 l3) = (-1)) → (-2147483648 ≤ ((l3 + 1) : Int) ∧ (l3 + 1) ≤ 2147483647) ∧ (∃ n1, n1 < n ∧ I13 n1 l1 l2 (l3 + 1) T)) ∧ (¬ ((T 23 l3) = (-1)) → (((T 24 l3) ≠ 0) → (-2147483648 ≤ ((l3 + 1) : Int) ∧ (l3 + 1) ≤ 2147483647) ∧ (∃ n1, n1 < n ∧ I13 n1 l1 l2 (l3 + 1) T)) ∧ (¬ ((T 24 l3) ≠ 0) → CX_setGone g [mt, mi l3, mi 1] T (Qv fun S5 => mI S5 → CX_makes g [mt, mi l1] S5 (Qi fun v7 S6 => mI S6 → (-2147483648 ≤ v7 ∧ v7 ≤ 2147483647) → ((v7 ≠ 0) → CX_setGone g [mt, mi l3, mi 0] S6 (Qv fun S8 => mI S8 → (-2147483648 ≤ ((l3 + 1) : Int) ∧ (l3 + 1) ≤ 2147483647) ∧ (∃ n1, n1 < n ∧ I13 n1 l1 0 (l3 + 1) S8))) ∧ (¬ (v7 ≠ 0) → CX_setGone g [mt, mi l3, mi 0] S6 (Qv fun S10 => mI S10 → (-2147483648 ≤ ((l3 + 1) : Int) ∧ (l3 + 1) ≤ 2147483647) ∧ (∃ n1, n1 < n ∧ I13 n1 l1 1 (l3 + 1) S10))))))))))
    : CX_isPrinted g [mt, mi a1] S Qp := by
  refine cm_y ⟨by decide, rfl⟩ (by simp [mcat]) (by simp) (fun n pc L st S => (pc = 13 ∧ ∃ (l1 : Int) (l2 : Int) (l3 : Int), L = [some mt, some (mi l1), some (mi l2), some (mi l3)] ∧ st = [] ∧ I13 n l1 l2 l3 S)) ?_ ?_
  · intro ha hS P Y Wk hIc
    have h := hE hS (mokI (ha (mi a1) (by simp)))
    clear hE ha h13
    refine y_aload_n 0 Y dX6_isPrinted_0 rfl ?_
    refine y_iload_n 1 Y dX6_isPrinted_1 rfl ?_
    refine y_call 2 Y (as := [mi a1]) [] dX6_isPrinted_2 rfl rfl rfl rfl rfl h (fun r S1 hq hI _ => ?_)
    obtain ⟨rfl, h⟩ := Qv_ok hq
    replace h := h hI
    clear hq
    refine y_aload_n 5 Y dX6_isPrinted_5 rfl ?_
    refine y_iload_n 6 Y dX6_isPrinted_6 rfl ?_
    refine y_call 7 Y (as := [mi a1]) [] dX6_isPrinted_7 rfl rfl rfl rfl rfl h (fun r S2 hq hI hr => ?_)
    obtain ⟨v3, rfl, h⟩ := Qi_ok hq
    replace h := h hI (mokI (hr _ rfl))
    clear hq hr
    refine y_istore_n 10 Y [some mt, some (mi a1), some (mi v3), none] dX6_isPrinted_10 rfl rfl ?_
    refine y_iconst 11 Y dX6_isPrinted_11 rfl ?_
    refine y_istore_n 12 Y [some mt, some (mi a1), some (mi v3), some (mi 0)] dX6_isPrinted_12 rfl rfl ?_
    obtain ⟨n1, h⟩ := h
    exact Wk 13 _ [some mt, some (mi a1), some (mi v3), some (mi 0)] _ _ ⟨rfl, ⟨rfl, ⟨rfl, ⟨rfl, trivial⟩⟩⟩⟩ (hIc n1 _ _ _ _ ((⟨rfl, _, _, _, rfl, rfl, h⟩)))
  · intro n pc L st T hi hS hL P Y Wk hIc
    clear hE
    rcases hi with ⟨rfl, l1, l2, l3, rfl, rfl, hi⟩
    · have h := h13 n l1 l2 l3 T hS (hL 1 _ rfl) (hL 2 _ rfl) (hL 3 _ rfl) hi
      clear hL hi h13
      refine y_iload_n 13 Y dX6_isPrinted_13 rfl ?_
      refine y_aload_n 14 Y dX6_isPrinted_14 rfl ?_
      refine y_getf 15 Y 25 dX6_isPrinted_15 rfl rfl (fun _ => ?_)
      refine y_icmp 18 76 Y dX6_isPrinted_18 rfl rfl (fun c => ?_) (fun c => ?_)
      · replace h := h.1 c
        refine y_iload_n 76 Y dX6_isPrinted_76 rfl ?_
        exact y_zret 77 Y dX6_isPrinted_77 rfl h.1 h.2
      · replace h := h.2 c
        refine y_iload_n 21 Y dX6_isPrinted_21 rfl ?_
        refine y_if 22 76 Y dX6_isPrinted_22 rfl rfl (fun c => ?_) (fun c => ?_)
        · replace h := h.1 c
          refine y_iload_n 76 Y dX6_isPrinted_76 rfl ?_
          exact y_zret 77 Y dX6_isPrinted_77 rfl h.1 h.2
        · replace h := h.2 c
          refine y_aload_n 25 Y dX6_isPrinted_25 rfl ?_
          refine y_geta 26 Y 23 dX6_isPrinted_26 rfl rfl ?_
          refine y_iload_n 29 Y dX6_isPrinted_29 rfl ?_
          obtain ⟨o1, h⟩ := h
          obtain ⟨o2, h⟩ := h
          refine y_iald 30 Y dX6_isPrinted_30 rfl rfl o1 o2 (fun _ => ?_)
          refine y_iconst 31 Y dX6_isPrinted_31 rfl ?_
          refine y_icmp 32 70 Y dX6_isPrinted_32 rfl rfl (fun c => ?_) (fun c => ?_)
          · replace h := h.1 c
            obtain ⟨o3, h⟩ := h
            refine y_iinc 70 Y [some mt, some (mi l1), some (mi l2), some (mi (l3 + 1))] dX6_isPrinted_70 rfl rfl o3 ?_
            refine y_goto 73 13 Y dX6_isPrinted_73 rfl rfl ?_
            obtain ⟨n1, hn, h⟩ := h
            exact Wk 13 _ [some mt, some (mi l1), some (mi l2), some (mi (l3 + 1))] _ _ ⟨rfl, ⟨rfl, ⟨rfl, ⟨rfl, trivial⟩⟩⟩⟩ (hIc n1 _ _ _ _ hn ((⟨rfl, _, _, _, rfl, rfl, h⟩)))
          · replace h := h.2 c
            refine y_aload_n 35 Y dX6_isPrinted_35 rfl ?_
            refine y_geta 36 Y 24 dX6_isPrinted_36 rfl rfl ?_
            refine y_iload_n 39 Y dX6_isPrinted_39 rfl ?_
            refine y_bald 40 Y dX6_isPrinted_40 rfl rfl o1 o2 (fun _ => ?_)
            refine y_if 41 70 Y dX6_isPrinted_41 rfl rfl (fun c => ?_) (fun c => ?_)
            · replace h := h.1 c
              obtain ⟨o4, h⟩ := h
              refine y_iinc 70 Y [some mt, some (mi l1), some (mi l2), some (mi (l3 + 1))] dX6_isPrinted_70 rfl rfl o4 ?_
              refine y_goto 73 13 Y dX6_isPrinted_73 rfl rfl ?_
              obtain ⟨n1, hn, h⟩ := h
              exact Wk 13 _ [some mt, some (mi l1), some (mi l2), some (mi (l3 + 1))] _ _ ⟨rfl, ⟨rfl, ⟨rfl, ⟨rfl, trivial⟩⟩⟩⟩ (hIc n1 _ _ _ _ hn ((⟨rfl, _, _, _, rfl, rfl, h⟩)))
            · replace h := h.2 c
              refine y_aload_n 44 Y dX6_isPrinted_44 rfl ?_
              refine y_iload_n 45 Y dX6_isPrinted_45 rfl ?_
              refine y_iconst 46 Y dX6_isPrinted_46 rfl ?_
              refine y_call 47 Y (as := [mi l3, mi 1]) [] dX6_isPrinted_47 rfl rfl rfl rfl rfl h (fun r S5 hq hI _ => ?_)
              obtain ⟨rfl, h⟩ := Qv_ok hq
              replace h := h hI
              clear hq
              refine y_aload_n 50 Y dX6_isPrinted_50 rfl ?_
              refine y_iload_n 51 Y dX6_isPrinted_51 rfl ?_
              refine y_call 52 Y (as := [mi l1]) [] dX6_isPrinted_52 rfl rfl rfl rfl rfl h (fun r S6 hq hI hr => ?_)
              obtain ⟨v7, rfl, h⟩ := Qi_ok hq
              replace h := h hI (mokI (hr _ rfl))
              clear hq hr
              refine y_if 55 62 Y dX6_isPrinted_55 rfl rfl (fun c => ?_) (fun c => ?_)
              · replace h := h.1 c
                refine y_iconst 62 Y dX6_isPrinted_62 rfl ?_
                refine y_istore_n 63 Y [some mt, some (mi l1), some (mi 0), some (mi l3)] dX6_isPrinted_63 rfl rfl ?_
                refine y_aload_n 64 Y dX6_isPrinted_64 rfl ?_
                refine y_iload_n 65 Y dX6_isPrinted_65 rfl ?_
                refine y_iconst 66 Y dX6_isPrinted_66 rfl ?_
                refine y_call 67 Y (as := [mi l3, mi 0]) [] dX6_isPrinted_67 rfl rfl rfl rfl rfl h (fun r S8 hq hI _ => ?_)
                obtain ⟨rfl, h⟩ := Qv_ok hq
                replace h := h hI
                clear hq
                obtain ⟨o9, h⟩ := h
                refine y_iinc 70 Y [some mt, some (mi l1), some (mi 0), some (mi (l3 + 1))] dX6_isPrinted_70 rfl rfl o9 ?_
                refine y_goto 73 13 Y dX6_isPrinted_73 rfl rfl ?_
                obtain ⟨n1, hn, h⟩ := h
                exact Wk 13 _ [some mt, some (mi l1), some (mi 0), some (mi (l3 + 1))] _ _ ⟨rfl, ⟨rfl, ⟨rfl, ⟨rfl, trivial⟩⟩⟩⟩ (hIc n1 _ _ _ _ hn ((⟨rfl, _, _, _, rfl, rfl, h⟩)))
              · replace h := h.2 c
                refine y_iconst 58 Y dX6_isPrinted_58 rfl ?_
                refine y_goto 59 63 Y dX6_isPrinted_59 rfl rfl ?_
                refine y_istore_n 63 Y [some mt, some (mi l1), some (mi 1), some (mi l3)] dX6_isPrinted_63 rfl rfl ?_
                refine y_aload_n 64 Y dX6_isPrinted_64 rfl ?_
                refine y_iload_n 65 Y dX6_isPrinted_65 rfl ?_
                refine y_iconst 66 Y dX6_isPrinted_66 rfl ?_
                refine y_call 67 Y (as := [mi l3, mi 0]) [] dX6_isPrinted_67 rfl rfl rfl rfl rfl h (fun r S10 hq hI _ => ?_)
                obtain ⟨rfl, h⟩ := Qv_ok hq
                replace h := h hI
                clear hq
                obtain ⟨o11, h⟩ := h
                refine y_iinc 70 Y [some mt, some (mi l1), some (mi 1), some (mi (l3 + 1))] dX6_isPrinted_70 rfl rfl o11 ?_
                refine y_goto 73 13 Y dX6_isPrinted_73 rfl rfl ?_
                obtain ⟨n1, hn, h⟩ := h
                exact Wk 13 _ [some mt, some (mi l1), some (mi 1), some (mi (l3 + 1))] _ _ ⟨rfl, ⟨rfl, ⟨rfl, ⟨rfl, trivial⟩⟩⟩⟩ (hIc n1 _ _ _ _ hn ((⟨rfl, _, _, _, rfl, rfl, h⟩)))
set_option maxHeartbeats 4000000 in
theorem of_print {g : mG} {S : mS} {a1 : Int} {Qp : Option mV → mS → Prop}
    (hE : mI S → (-2147483648 ≤ a1 ∧ a1 ≤ 2147483647) → CX_isTree g [mt, mi a1] S (Qi fun v2 S1 => mI S1 → (-2147483648 ≤ v2 ∧ v2 ≤ 2147483647) → ((v2 ≠ 0) → CX_refused g [mt, mi 0, mi 0, mi 0] S1 (Qi fun v4 S3 => mI S3 → (-2147483648 ≤ v4 ∧ v4 ≤ 2147483647) → ((v4 = 0) → CX_shelf g [mi a1] S3 (Qi fun v6 S5 => mI S5 → (-2147483648 ≤ v6 ∧ v6 ≤ 2147483647) → CX_fewest g [mt, mi v6] S5 (Qv fun S7 => mI S7 → CX_outWords g [mt] S7 (Qv fun S8 => mI S8 → Qp (some (mi (S8 42 0))) S8)))) ∧ (¬ (v4 = 0) → Qp (some (mi 0)) S3))) ∧ (¬ (v2 ≠ 0) → CX_refused g [mt, mi 1, mi 0, mi 0] S1 (Qi fun v10 S9 => mI S9 → (-2147483648 ≤ v10 ∧ v10 ≤ 2147483647) → ((v10 = 0) → CX_shelf g [mi a1] S9 (Qi fun v12 S11 => mI S11 → (-2147483648 ≤ v12 ∧ v12 ≤ 2147483647) → CX_fewest g [mt, mi v12] S11 (Qv fun S13 => mI S13 → CX_outWords g [mt] S13 (Qv fun S14 => mI S14 → Qp (some (mi (S14 42 0))) S14)))) ∧ (¬ (v10 = 0) → Qp (some (mi 0)) S9)))))
    : CX_print g [mt, mi a1] S Qp := by
  refine cm_y ⟨by decide, rfl⟩ (by simp [mcat]) (by simp) (fun _ _ _ _ _ => False) ?_ ?_
  · intro ha hS P Y Wk hIc
    have h := hE hS (mokI (ha (mi a1) (by simp)))
    clear hE ha
    refine y_aload_n 0 Y dX6_print_0 rfl ?_
    refine y_aload_n 1 Y dX6_print_1 rfl ?_
    refine y_iload_n 2 Y dX6_print_2 rfl ?_
    refine y_call 3 Y (as := [mi a1]) [mt] dX6_print_3 rfl rfl rfl rfl rfl h (fun r S1 hq hI hr => ?_)
    obtain ⟨v2, rfl, h⟩ := Qi_ok hq
    replace h := h hI (mokI (hr _ rfl))
    clear hq hr
    refine y_if 6 13 Y dX6_print_6 rfl rfl (fun c => ?_) (fun c => ?_)
    · replace h := h.1 c
      refine y_iconst 13 Y dX6_print_13 rfl ?_
      refine y_iconst 14 Y dX6_print_14 rfl ?_
      refine y_iconst 15 Y dX6_print_15 rfl ?_
      refine y_call 16 Y (as := [mi 0, mi 0, mi 0]) [] dX6_print_16 rfl rfl rfl rfl rfl h (fun r S3 hq hI hr => ?_)
      obtain ⟨v4, rfl, h⟩ := Qi_ok hq
      replace h := h hI (mokI (hr _ rfl))
      clear hq hr
      refine y_if 19 24 Y dX6_print_19 rfl rfl (fun c => ?_) (fun c => ?_)
      · replace h := h.1 c
        refine y_aload_n 24 Y dX6_print_24 rfl ?_
        refine y_iload_n 25 Y dX6_print_25 rfl ?_
        refine y_calls 26 Y (as := [mi a1]) [mt] dX6_print_26 rfl rfl rfl rfl rfl h (fun r S5 hq hI hr => ?_)
        obtain ⟨v6, rfl, h⟩ := Qi_ok hq
        replace h := h hI (mokI (hr _ rfl))
        clear hq hr
        refine y_call 29 Y (as := [mi v6]) [] dX6_print_29 rfl rfl rfl rfl rfl h (fun r S7 hq hI _ => ?_)
        obtain ⟨rfl, h⟩ := Qv_ok hq
        replace h := h hI
        clear hq
        refine y_aload_n 32 Y dX6_print_32 rfl ?_
        refine y_call 33 Y (as := []) [] dX6_print_33 rfl rfl rfl rfl rfl h (fun r S8 hq hI _ => ?_)
        obtain ⟨rfl, h⟩ := Qv_ok hq
        replace h := h hI
        clear hq
        refine y_aload_n 36 Y dX6_print_36 rfl ?_
        refine y_getf 37 Y 42 dX6_print_37 rfl rfl (fun _ => ?_)
        exact y_iret 40 Y dX6_print_40 rfl h
      · replace h := h.2 c
        refine y_iconst 22 Y dX6_print_22 rfl ?_
        exact y_iret 23 Y dX6_print_23 rfl h
    · replace h := h.2 c
      refine y_iconst 9 Y dX6_print_9 rfl ?_
      refine y_goto 10 14 Y dX6_print_10 rfl rfl ?_
      refine y_iconst 14 Y dX6_print_14 rfl ?_
      refine y_iconst 15 Y dX6_print_15 rfl ?_
      refine y_call 16 Y (as := [mi 1, mi 0, mi 0]) [] dX6_print_16 rfl rfl rfl rfl rfl h (fun r S9 hq hI hr => ?_)
      obtain ⟨v10, rfl, h⟩ := Qi_ok hq
      replace h := h hI (mokI (hr _ rfl))
      clear hq hr
      refine y_if 19 24 Y dX6_print_19 rfl rfl (fun c => ?_) (fun c => ?_)
      · replace h := h.1 c
        refine y_aload_n 24 Y dX6_print_24 rfl ?_
        refine y_iload_n 25 Y dX6_print_25 rfl ?_
        refine y_calls 26 Y (as := [mi a1]) [mt] dX6_print_26 rfl rfl rfl rfl rfl h (fun r S11 hq hI hr => ?_)
        obtain ⟨v12, rfl, h⟩ := Qi_ok hq
        replace h := h hI (mokI (hr _ rfl))
        clear hq hr
        refine y_call 29 Y (as := [mi v12]) [] dX6_print_29 rfl rfl rfl rfl rfl h (fun r S13 hq hI _ => ?_)
        obtain ⟨rfl, h⟩ := Qv_ok hq
        replace h := h hI
        clear hq
        refine y_aload_n 32 Y dX6_print_32 rfl ?_
        refine y_call 33 Y (as := []) [] dX6_print_33 rfl rfl rfl rfl rfl h (fun r S14 hq hI _ => ?_)
        obtain ⟨rfl, h⟩ := Qv_ok hq
        replace h := h hI
        clear hq
        refine y_aload_n 36 Y dX6_print_36 rfl ?_
        refine y_getf 37 Y 42 dX6_print_37 rfl rfl (fun _ => ?_)
        exact y_iret 40 Y dX6_print_40 rfl h
      · replace h := h.2 c
        refine y_iconst 22 Y dX6_print_22 rfl ?_
        exact y_iret 23 Y dX6_print_23 rfl h
  · intro n pc L st T hi
    exact hi.elim
set_option maxHeartbeats 4000000 in
theorem of_two {g : mG} {S : mS} {a1 a2 a3 : Int} {Qp : Option mV → mS → Prop}
    (hE : mI S → (-2147483648 ≤ a1 ∧ a1 ≤ 2147483647) → (-2147483648 ≤ a2 ∧ a2 ≤ 2147483647) → (-2147483648 ≤ a3 ∧ a3 ≤ 2147483647) → (a1 = 0 → CX_addValues g [mt, mi a2, mi a2, mi a3, mi 1] S (Qi fun v2 S1 => mI S1 → (-2147483648 ≤ v2 ∧ v2 ≤ 2147483647) → ((v2 = 0) → Qp (some (mi 3)) S1) ∧ (¬ (v2 = 0) → Qp (some (mi 0)) S1))) ∧ (a1 = 1 → CX_addValues g [mt, mi a2, mi a2, mi a3, mi (-1)] S (Qi fun v4 S3 => mI S3 → (-2147483648 ≤ v4 ∧ v4 ≤ 2147483647) → ((v4 = 0) → Qp (some (mi 3)) S3) ∧ (¬ (v4 = 0) → Qp (some (mi 0)) S3))) ∧ (a1 = 2 → CX_multiplyValues g [mt, mi a2, mi a2, mi a3] S (Qi fun v6 S5 => mI S5 → (-2147483648 ≤ v6 ∧ v6 ≤ 2147483647) → ((v6 = 0) → Qp (some (mi 3)) S5) ∧ (¬ (v6 = 0) → Qp (some (mi 0)) S5))) ∧ (a1 = 3 → CX_sign_2 g [mt, mi a3] S (Qi fun v8 S7 => mI S7 → (-2147483648 ≤ v8 ∧ v8 ≤ 2147483647) → ((v8 ≠ 0) → CX_divideValues g [mt, mi a2, mi a2, mi a3] S7 (Qi fun v10 S9 => mI S9 → (-2147483648 ≤ v10 ∧ v10 ≤ 2147483647) → ((v10 = 0) → Qp (some (mi 3)) S9) ∧ (¬ (v10 = 0) → Qp (some (mi 0)) S9))) ∧ (¬ (v8 ≠ 0) → Qp (some (mi 1)) S7))) ∧ (a1 = 4 → CX_remainder g [mt, mi a2, mi a2, mi a3] S (Qi fun v12 S11 => mI S11 → (-2147483648 ≤ v12 ∧ v12 ≤ 2147483647) → Qp (some (mi v12)) S11)) ∧ (a1 = 5 → CX_power g [mt, mi a2, mi a2, mi a3] S (Qi fun v14 S13 => mI S13 → (-2147483648 ≤ v14 ∧ v14 ≤ 2147483647) → Qp (some (mi v14)) S13)) ∧ (a1 = 6 → CX_compareValues g [mt, mi a2, mi a3] S (Qi fun v16 S15 => mI S15 → (-2147483648 ≤ v16 ∧ v16 ≤ 2147483647) → ((a1 ≠ 6) → ((a1 ≠ 7) → ((a1 ≠ 8) → CX_setInt g [mt, mi a2, mi 0] S15 (Qv fun S17 => mI S17 → Qp (some (mi 0)) S17)) ∧ (¬ (a1 ≠ 8) → ((v16 ≤ 0) → CX_setInt g [mt, mi a2, mi 0] S15 (Qv fun S18 => mI S18 → Qp (some (mi 0)) S18)) ∧ (¬ (v16 ≤ 0) → CX_setInt g [mt, mi a2, mi 1] S15 (Qv fun S19 => mI S19 → Qp (some (mi 0)) S19)))) ∧ (¬ (a1 ≠ 7) → ((v16 = 0) → CX_setInt g [mt, mi a2, mi 1] S15 (Qv fun S20 => mI S20 → Qp (some (mi 0)) S20)) ∧ (¬ (v16 = 0) → ((a1 ≠ 8) → CX_setInt g [mt, mi a2, mi 0] S15 (Qv fun S21 => mI S21 → Qp (some (mi 0)) S21)) ∧ (¬ (a1 ≠ 8) → ((v16 ≤ 0) → CX_setInt g [mt, mi a2, mi 0] S15 (Qv fun S22 => mI S22 → Qp (some (mi 0)) S22)) ∧ (¬ (v16 ≤ 0) → CX_setInt g [mt, mi a2, mi 1] S15 (Qv fun S23 => mI S23 → Qp (some (mi 0)) S23)))))) ∧ (¬ (a1 ≠ 6) → ((v16 < 0) → CX_setInt g [mt, mi a2, mi 1] S15 (Qv fun S24 => mI S24 → Qp (some (mi 0)) S24)) ∧ (¬ (v16 < 0) → ((a1 ≠ 7) → ((a1 ≠ 8) → CX_setInt g [mt, mi a2, mi 0] S15 (Qv fun S25 => mI S25 → Qp (some (mi 0)) S25)) ∧ (¬ (a1 ≠ 8) → ((v16 ≤ 0) → CX_setInt g [mt, mi a2, mi 0] S15 (Qv fun S26 => mI S26 → Qp (some (mi 0)) S26)) ∧ (¬ (v16 ≤ 0) → CX_setInt g [mt, mi a2, mi 1] S15 (Qv fun S27 => mI S27 → Qp (some (mi 0)) S27)))) ∧ (¬ (a1 ≠ 7) → ((v16 = 0) → CX_setInt g [mt, mi a2, mi 1] S15 (Qv fun S28 => mI S28 → Qp (some (mi 0)) S28)) ∧ (¬ (v16 = 0) → ((a1 ≠ 8) → CX_setInt g [mt, mi a2, mi 0] S15 (Qv fun S29 => mI S29 → Qp (some (mi 0)) S29)) ∧ (¬ (a1 ≠ 8) → ((v16 ≤ 0) → CX_setInt g [mt, mi a2, mi 0] S15 (Qv fun S30 => mI S30 → Qp (some (mi 0)) S30)) ∧ (¬ (v16 ≤ 0) → CX_setInt g [mt, mi a2, mi 1] S15 (Qv fun S31 => mI S31 → Qp (some (mi 0)) S31))))))))) ∧ (a1 = 7 → CX_compareValues g [mt, mi a2, mi a3] S (Qi fun v33 S32 => mI S32 → (-2147483648 ≤ v33 ∧ v33 ≤ 2147483647) → ((a1 ≠ 6) → ((a1 ≠ 7) → ((a1 ≠ 8) → CX_setInt g [mt, mi a2, mi 0] S32 (Qv fun S34 => mI S34 → Qp (some (mi 0)) S34)) ∧ (¬ (a1 ≠ 8) → ((v33 ≤ 0) → CX_setInt g [mt, mi a2, mi 0] S32 (Qv fun S35 => mI S35 → Qp (some (mi 0)) S35)) ∧ (¬ (v33 ≤ 0) → CX_setInt g [mt, mi a2, mi 1] S32 (Qv fun S36 => mI S36 → Qp (some (mi 0)) S36)))) ∧ (¬ (a1 ≠ 7) → ((v33 = 0) → CX_setInt g [mt, mi a2, mi 1] S32 (Qv fun S37 => mI S37 → Qp (some (mi 0)) S37)) ∧ (¬ (v33 = 0) → ((a1 ≠ 8) → CX_setInt g [mt, mi a2, mi 0] S32 (Qv fun S38 => mI S38 → Qp (some (mi 0)) S38)) ∧ (¬ (a1 ≠ 8) → ((v33 ≤ 0) → CX_setInt g [mt, mi a2, mi 0] S32 (Qv fun S39 => mI S39 → Qp (some (mi 0)) S39)) ∧ (¬ (v33 ≤ 0) → CX_setInt g [mt, mi a2, mi 1] S32 (Qv fun S40 => mI S40 → Qp (some (mi 0)) S40)))))) ∧ (¬ (a1 ≠ 6) → ((v33 < 0) → CX_setInt g [mt, mi a2, mi 1] S32 (Qv fun S41 => mI S41 → Qp (some (mi 0)) S41)) ∧ (¬ (v33 < 0) → ((a1 ≠ 7) → ((a1 ≠ 8) → CX_setInt g [mt, mi a2, mi 0] S32 (Qv fun S42 => mI S42 → Qp (some (mi 0)) S42)) ∧ (¬ (a1 ≠ 8) → ((v33 ≤ 0) → CX_setInt g [mt, mi a2, mi 0] S32 (Qv fun S43 => mI S43 → Qp (some (mi 0)) S43)) ∧ (¬ (v33 ≤ 0) → CX_setInt g [mt, mi a2, mi 1] S32 (Qv fun S44 => mI S44 → Qp (some (mi 0)) S44)))) ∧ (¬ (a1 ≠ 7) → ((v33 = 0) → CX_setInt g [mt, mi a2, mi 1] S32 (Qv fun S45 => mI S45 → Qp (some (mi 0)) S45)) ∧ (¬ (v33 = 0) → ((a1 ≠ 8) → CX_setInt g [mt, mi a2, mi 0] S32 (Qv fun S46 => mI S46 → Qp (some (mi 0)) S46)) ∧ (¬ (a1 ≠ 8) → ((v33 ≤ 0) → CX_setInt g [mt, mi a2, mi 0] S32 (Qv fun S47 => mI S47 → Qp (some (mi 0)) S47)) ∧ (¬ (v33 ≤ 0) → CX_setInt g [mt, mi a2, mi 1] S32 (Qv fun S48 => mI S48 → Qp (some (mi 0)) S48))))))))) ∧ (a1 = 8 → CX_compareValues g [mt, mi a2, mi a3] S (Qi fun v50 S49 => mI S49 → (-2147483648 ≤ v50 ∧ v50 ≤ 2147483647) → ((a1 ≠ 6) → ((a1 ≠ 7) → ((a1 ≠ 8) → CX_setInt g [mt, mi a2, mi 0] S49 (Qv fun S51 => mI S51 → Qp (some (mi 0)) S51)) ∧ (¬ (a1 ≠ 8) → ((v50 ≤ 0) → CX_setInt g [mt, mi a2, mi 0] S49 (Qv fun S52 => mI S52 → Qp (some (mi 0)) S52)) ∧ (¬ (v50 ≤ 0) → CX_setInt g [mt, mi a2, mi 1] S49 (Qv fun S53 => mI S53 → Qp (some (mi 0)) S53)))) ∧ (¬ (a1 ≠ 7) → ((v50 = 0) → CX_setInt g [mt, mi a2, mi 1] S49 (Qv fun S54 => mI S54 → Qp (some (mi 0)) S54)) ∧ (¬ (v50 = 0) → ((a1 ≠ 8) → CX_setInt g [mt, mi a2, mi 0] S49 (Qv fun S55 => mI S55 → Qp (some (mi 0)) S55)) ∧ (¬ (a1 ≠ 8) → ((v50 ≤ 0) → CX_setInt g [mt, mi a2, mi 0] S49 (Qv fun S56 => mI S56 → Qp (some (mi 0)) S56)) ∧ (¬ (v50 ≤ 0) → CX_setInt g [mt, mi a2, mi 1] S49 (Qv fun S57 => mI S57 → Qp (some (mi 0)) S57)))))) ∧ (¬ (a1 ≠ 6) → ((v50 < 0) → CX_setInt g [mt, mi a2, mi 1] S49 (Qv fun S58 => mI S58 → Qp (some (mi 0)) S58)) ∧ (¬ (v50 < 0) → ((a1 ≠ 7) → ((a1 ≠ 8) → CX_setInt g [mt, mi a2, mi 0] S49 (Qv fun S59 => mI S59 → Qp (some (mi 0)) S59)) ∧ (¬ (a1 ≠ 8) → ((v50 ≤ 0) → CX_setInt g [mt, mi a2, mi 0] S49 (Qv fun S60 => mI S60 → Qp (some (mi 0)) S60)) ∧ (¬ (v50 ≤ 0) → CX_setInt g [mt, mi a2, mi 1] S49 (Qv fun S61 => mI S61 → Qp (some (mi 0)) S61)))) ∧ (¬ (a1 ≠ 7) → ((v50 = 0) → CX_setInt g [mt, mi a2, mi 1] S49 (Qv fun S62 => mI S62 → Qp (some (mi 0)) S62)) ∧ (¬ (v50 = 0) → ((a1 ≠ 8) → CX_setInt g [mt, mi a2, mi 0] S49 (Qv fun S63 => mI S63 → Qp (some (mi 0)) S63)) ∧ (¬ (a1 ≠ 8) → ((v50 ≤ 0) → CX_setInt g [mt, mi a2, mi 0] S49 (Qv fun S64 => mI S64 → Qp (some (mi 0)) S64)) ∧ (¬ (v50 ≤ 0) → CX_setInt g [mt, mi a2, mi 1] S49 (Qv fun S65 => mI S65 → Qp (some (mi 0)) S65))))))))) ∧ (a1 = 9 → CX_sign_2 g [mt, mi a2] S (Qi fun v67 S66 => mI S66 → (-2147483648 ≤ v67 ∧ v67 ≤ 2147483647) → ((v67 = 0) → CX_setInt g [mt, mi a2, mi 0] S66 (Qv fun S68 => mI S68 → Qp (some (mi 0)) S68)) ∧ (¬ (v67 = 0) → CX_sign_2 g [mt, mi a3] S66 (Qi fun v70 S69 => mI S69 → (-2147483648 ≤ v70 ∧ v70 ≤ 2147483647) → ((v70 = 0) → CX_setInt g [mt, mi a2, mi 0] S69 (Qv fun S71 => mI S71 → Qp (some (mi 0)) S71)) ∧ (¬ (v70 = 0) → CX_setInt g [mt, mi a2, mi 1] S69 (Qv fun S72 => mI S72 → Qp (some (mi 0)) S72)))))) ∧ (a1 = 10 → CX_sign_2 g [mt, mi a2] S (Qi fun v74 S73 => mI S73 → (-2147483648 ≤ v74 ∧ v74 ≤ 2147483647) → ((v74 ≠ 0) → CX_setInt g [mt, mi a2, mi 1] S73 (Qv fun S75 => mI S75 → Qp (some (mi 0)) S75)) ∧ (¬ (v74 ≠ 0) → CX_sign_2 g [mt, mi a3] S73 (Qi fun v77 S76 => mI S76 → (-2147483648 ≤ v77 ∧ v77 ≤ 2147483647) → ((v77 = 0) → CX_setInt g [mt, mi a2, mi 0] S76 (Qv fun S78 => mI S78 → Qp (some (mi 0)) S78)) ∧ (¬ (v77 = 0) → CX_setInt g [mt, mi a2, mi 1] S76 (Qv fun S79 => mI S79 → Qp (some (mi 0)) S79)))))) ∧ (a1 < 0 ∨ 10 < a1 → CX_compareValues g [mt, mi a2, mi a3] S (Qi fun v81 S80 => mI S80 → (-2147483648 ≤ v81 ∧ v81 ≤ 2147483647) → ((a1 ≠ 6) → ((a1 ≠ 7) → ((a1 ≠ 8) → CX_setInt g [mt, mi a2, mi 0] S80 (Qv fun S82 => mI S82 → Qp (some (mi 0)) S82)) ∧ (¬ (a1 ≠ 8) → ((v81 ≤ 0) → CX_setInt g [mt, mi a2, mi 0] S80 (Qv fun S83 => mI S83 → Qp (some (mi 0)) S83)) ∧ (¬ (v81 ≤ 0) → CX_setInt g [mt, mi a2, mi 1] S80 (Qv fun S84 => mI S84 → Qp (some (mi 0)) S84)))) ∧ (¬ (a1 ≠ 7) → ((v81 = 0) → CX_setInt g [mt, mi a2, mi 1] S80 (Qv fun S85 => mI S85 → Qp (some (mi 0)) S85)) ∧ (¬ (v81 = 0) → ((a1 ≠ 8) → CX_setInt g [mt, mi a2, mi 0] S80 (Qv fun S86 => mI S86 → Qp (some (mi 0)) S86)) ∧ (¬ (a1 ≠ 8) → ((v81 ≤ 0) → CX_setInt g [mt, mi a2, mi 0] S80 (Qv fun S87 => mI S87 → Qp (some (mi 0)) S87)) ∧ (¬ (v81 ≤ 0) → CX_setInt g [mt, mi a2, mi 1] S80 (Qv fun S88 => mI S88 → Qp (some (mi 0)) S88)))))) ∧ (¬ (a1 ≠ 6) → ((v81 < 0) → CX_setInt g [mt, mi a2, mi 1] S80 (Qv fun S89 => mI S89 → Qp (some (mi 0)) S89)) ∧ (¬ (v81 < 0) → ((a1 ≠ 7) → ((a1 ≠ 8) → CX_setInt g [mt, mi a2, mi 0] S80 (Qv fun S90 => mI S90 → Qp (some (mi 0)) S90)) ∧ (¬ (a1 ≠ 8) → ((v81 ≤ 0) → CX_setInt g [mt, mi a2, mi 0] S80 (Qv fun S91 => mI S91 → Qp (some (mi 0)) S91)) ∧ (¬ (v81 ≤ 0) → CX_setInt g [mt, mi a2, mi 1] S80 (Qv fun S92 => mI S92 → Qp (some (mi 0)) S92)))) ∧ (¬ (a1 ≠ 7) → ((v81 = 0) → CX_setInt g [mt, mi a2, mi 1] S80 (Qv fun S93 => mI S93 → Qp (some (mi 0)) S93)) ∧ (¬ (v81 = 0) → ((a1 ≠ 8) → CX_setInt g [mt, mi a2, mi 0] S80 (Qv fun S94 => mI S94 → Qp (some (mi 0)) S94)) ∧ (¬ (a1 ≠ 8) → ((v81 ≤ 0) → CX_setInt g [mt, mi a2, mi 0] S80 (Qv fun S95 => mI S95 → Qp (some (mi 0)) S95)) ∧ (¬ (v81 ≤ 0) → CX_setInt g [mt, mi a2, mi 1] S80 (Qv fun S96 => mI S96 → Qp (some (mi 0)) S96))))))))))
    : CX_two g [mt, mi a1, mi a2, mi a3] S Qp := by
  refine cm_y ⟨by decide, rfl⟩ (by simp [mcat]) (by simp) (fun _ _ _ _ _ => False) ?_ ?_
  · intro ha hS P Y Wk hIc
    have h := hE hS (mokI (ha (mi a1) (by simp))) (mokI (ha (mi a2) (by simp))) (mokI (ha (mi a3) (by simp)))
    clear hE ha
    refine y_iload_n 0 Y dX6_two_0 rfl ?_
    refine y_table 1 Y dX6_two_1 rfl (And.intro (fun c => ?_) (And.intro (fun c => ?_) (And.intro (fun c => ?_) (And.intro (fun c => ?_) (And.intro (fun c => ?_) (And.intro (fun c => ?_) (And.intro (fun c => ?_) (And.intro (fun c => ?_) (And.intro (fun c => ?_) (And.intro (fun c => ?_) (And.intro (fun c => ?_) trivial))))))))))) (fun c => ?_)
    · replace h := h.1 c
      refine y_aload_n 60 Y dX6_two_60 rfl ?_
      refine y_iload_n 61 Y dX6_two_61 rfl ?_
      refine y_iload_n 62 Y dX6_two_62 rfl ?_
      refine y_iload_n 63 Y dX6_two_63 rfl ?_
      refine y_iconst 64 Y dX6_two_64 rfl ?_
      refine y_call 65 Y (as := [mi a2, mi a2, mi a3, mi 1]) [] dX6_two_65 rfl rfl rfl rfl rfl h (fun r S1 hq hI hr => ?_)
      obtain ⟨v2, rfl, h⟩ := Qi_ok hq
      replace h := h hI (mokI (hr _ rfl))
      clear hq hr
      refine y_if 68 75 Y dX6_two_68 rfl rfl (fun c => ?_) (fun c => ?_)
      · replace h := h.1 c
        refine y_iconst 75 Y dX6_two_75 rfl ?_
        exact y_iret 76 Y dX6_two_76 rfl h
      · replace h := h.2 c
        refine y_iconst 71 Y dX6_two_71 rfl ?_
        refine y_goto 72 76 Y dX6_two_72 rfl rfl ?_
        exact y_iret 76 Y dX6_two_76 rfl h
    · replace h := h.2.1 c
      refine y_aload_n 77 Y dX6_two_77 rfl ?_
      refine y_iload_n 78 Y dX6_two_78 rfl ?_
      refine y_iload_n 79 Y dX6_two_79 rfl ?_
      refine y_iload_n 80 Y dX6_two_80 rfl ?_
      refine y_iconst 81 Y dX6_two_81 rfl ?_
      refine y_call 82 Y (as := [mi a2, mi a2, mi a3, mi (-1)]) [] dX6_two_82 rfl rfl rfl rfl rfl h (fun r S3 hq hI hr => ?_)
      obtain ⟨v4, rfl, h⟩ := Qi_ok hq
      replace h := h hI (mokI (hr _ rfl))
      clear hq hr
      refine y_if 85 92 Y dX6_two_85 rfl rfl (fun c => ?_) (fun c => ?_)
      · replace h := h.1 c
        refine y_iconst 92 Y dX6_two_92 rfl ?_
        exact y_iret 93 Y dX6_two_93 rfl h
      · replace h := h.2 c
        refine y_iconst 88 Y dX6_two_88 rfl ?_
        refine y_goto 89 93 Y dX6_two_89 rfl rfl ?_
        exact y_iret 93 Y dX6_two_93 rfl h
    · replace h := h.2.2.1 c
      refine y_aload_n 94 Y dX6_two_94 rfl ?_
      refine y_iload_n 95 Y dX6_two_95 rfl ?_
      refine y_iload_n 96 Y dX6_two_96 rfl ?_
      refine y_iload_n 97 Y dX6_two_97 rfl ?_
      refine y_call 98 Y (as := [mi a2, mi a2, mi a3]) [] dX6_two_98 rfl rfl rfl rfl rfl h (fun r S5 hq hI hr => ?_)
      obtain ⟨v6, rfl, h⟩ := Qi_ok hq
      replace h := h hI (mokI (hr _ rfl))
      clear hq hr
      refine y_if 101 108 Y dX6_two_101 rfl rfl (fun c => ?_) (fun c => ?_)
      · replace h := h.1 c
        refine y_iconst 108 Y dX6_two_108 rfl ?_
        exact y_iret 109 Y dX6_two_109 rfl h
      · replace h := h.2 c
        refine y_iconst 104 Y dX6_two_104 rfl ?_
        refine y_goto 105 109 Y dX6_two_105 rfl rfl ?_
        exact y_iret 109 Y dX6_two_109 rfl h
    · replace h := h.2.2.2.1 c
      refine y_aload_n 110 Y dX6_two_110 rfl ?_
      refine y_iload_n 111 Y dX6_two_111 rfl ?_
      refine y_call 112 Y (as := [mi a3]) [] dX6_two_112 rfl rfl rfl rfl rfl h (fun r S7 hq hI hr => ?_)
      obtain ⟨v8, rfl, h⟩ := Qi_ok hq
      replace h := h hI (mokI (hr _ rfl))
      clear hq hr
      refine y_if 115 122 Y dX6_two_115 rfl rfl (fun c => ?_) (fun c => ?_)
      · replace h := h.1 c
        refine y_aload_n 122 Y dX6_two_122 rfl ?_
        refine y_iload_n 123 Y dX6_two_123 rfl ?_
        refine y_iload_n 124 Y dX6_two_124 rfl ?_
        refine y_iload_n 125 Y dX6_two_125 rfl ?_
        refine y_call 126 Y (as := [mi a2, mi a2, mi a3]) [] dX6_two_126 rfl rfl rfl rfl rfl h (fun r S9 hq hI hr => ?_)
        obtain ⟨v10, rfl, h⟩ := Qi_ok hq
        replace h := h hI (mokI (hr _ rfl))
        clear hq hr
        refine y_if 129 136 Y dX6_two_129 rfl rfl (fun c => ?_) (fun c => ?_)
        · replace h := h.1 c
          refine y_iconst 136 Y dX6_two_136 rfl ?_
          exact y_iret 137 Y dX6_two_137 rfl h
        · replace h := h.2 c
          refine y_iconst 132 Y dX6_two_132 rfl ?_
          refine y_goto 133 137 Y dX6_two_133 rfl rfl ?_
          exact y_iret 137 Y dX6_two_137 rfl h
      · replace h := h.2 c
        refine y_iconst 118 Y dX6_two_118 rfl ?_
        refine y_goto 119 137 Y dX6_two_119 rfl rfl ?_
        exact y_iret 137 Y dX6_two_137 rfl h
    · replace h := h.2.2.2.2.1 c
      refine y_aload_n 138 Y dX6_two_138 rfl ?_
      refine y_iload_n 139 Y dX6_two_139 rfl ?_
      refine y_iload_n 140 Y dX6_two_140 rfl ?_
      refine y_iload_n 141 Y dX6_two_141 rfl ?_
      refine y_call 142 Y (as := [mi a2, mi a2, mi a3]) [] dX6_two_142 rfl rfl rfl rfl rfl h (fun r S11 hq hI hr => ?_)
      obtain ⟨v12, rfl, h⟩ := Qi_ok hq
      replace h := h hI (mokI (hr _ rfl))
      clear hq hr
      exact y_iret 145 Y dX6_two_145 rfl h
    · replace h := h.2.2.2.2.2.1 c
      refine y_aload_n 146 Y dX6_two_146 rfl ?_
      refine y_iload_n 147 Y dX6_two_147 rfl ?_
      refine y_iload_n 148 Y dX6_two_148 rfl ?_
      refine y_iload_n 149 Y dX6_two_149 rfl ?_
      refine y_call 150 Y (as := [mi a2, mi a2, mi a3]) [] dX6_two_150 rfl rfl rfl rfl rfl h (fun r S13 hq hI hr => ?_)
      obtain ⟨v14, rfl, h⟩ := Qi_ok hq
      replace h := h hI (mokI (hr _ rfl))
      clear hq hr
      exact y_iret 153 Y dX6_two_153 rfl h
    · replace h := h.2.2.2.2.2.2.1 c
      refine y_aload_n 210 Y dX6_two_210 rfl ?_
      refine y_iload_n 211 Y dX6_two_211 rfl ?_
      refine y_iload_n 212 Y dX6_two_212 rfl ?_
      refine y_call 213 Y (as := [mi a2, mi a3]) [] dX6_two_213 rfl rfl rfl rfl rfl h (fun r S15 hq hI hr => ?_)
      obtain ⟨v16, rfl, h⟩ := Qi_ok hq
      replace h := h hI (mokI (hr _ rfl))
      clear hq hr
      refine y_istore 216 Y [some mt, some (mi a1), some (mi a2), some (mi a3), some (mi v16)] dX6_two_216 rfl rfl ?_
      refine y_aload_n 218 Y dX6_two_218 rfl ?_
      refine y_iload_n 219 Y dX6_two_219 rfl ?_
      refine y_iload_n 220 Y dX6_two_220 rfl ?_
      refine y_bipush 221 Y dX6_two_221 rfl ?_
      refine y_icmp 223 231 Y dX6_two_223 rfl rfl (fun c => ?_) (fun c => ?_)
      · replace h := h.1 c
        refine y_iload_n 231 Y dX6_two_231 rfl ?_
        refine y_bipush 232 Y dX6_two_232 rfl ?_
        refine y_icmp 234 242 Y dX6_two_234 rfl rfl (fun c => ?_) (fun c => ?_)
        · replace h := h.1 c
          refine y_iload_n 242 Y dX6_two_242 rfl ?_
          refine y_bipush 243 Y dX6_two_243 rfl ?_
          refine y_icmp 245 257 Y dX6_two_245 rfl rfl (fun c => ?_) (fun c => ?_)
          · replace h := h.1 c
            refine y_iconst 257 Y dX6_two_257 rfl ?_
            refine y_call 258 Y (as := [mi a2, mi 0]) [] dX6_two_258 rfl rfl rfl rfl rfl h (fun r S17 hq hI _ => ?_)
            obtain ⟨rfl, h⟩ := Qv_ok hq
            replace h := h hI
            clear hq
            refine y_iconst 261 Y dX6_two_261 rfl ?_
            exact y_iret 262 Y dX6_two_262 rfl h
          · replace h := h.2 c
            refine y_iload 248 Y dX6_two_248 rfl ?_
            refine y_if 250 257 Y dX6_two_250 rfl rfl (fun c => ?_) (fun c => ?_)
            · replace h := h.1 c
              refine y_iconst 257 Y dX6_two_257 rfl ?_
              refine y_call 258 Y (as := [mi a2, mi 0]) [] dX6_two_258 rfl rfl rfl rfl rfl h (fun r S18 hq hI _ => ?_)
              obtain ⟨rfl, h⟩ := Qv_ok hq
              replace h := h hI
              clear hq
              refine y_iconst 261 Y dX6_two_261 rfl ?_
              exact y_iret 262 Y dX6_two_262 rfl h
            · replace h := h.2 c
              refine y_iconst 253 Y dX6_two_253 rfl ?_
              refine y_goto 254 258 Y dX6_two_254 rfl rfl ?_
              refine y_call 258 Y (as := [mi a2, mi 1]) [] dX6_two_258 rfl rfl rfl rfl rfl h (fun r S19 hq hI _ => ?_)
              obtain ⟨rfl, h⟩ := Qv_ok hq
              replace h := h hI
              clear hq
              refine y_iconst 261 Y dX6_two_261 rfl ?_
              exact y_iret 262 Y dX6_two_262 rfl h
        · replace h := h.2 c
          refine y_iload 237 Y dX6_two_237 rfl ?_
          refine y_if 239 253 Y dX6_two_239 rfl rfl (fun c => ?_) (fun c => ?_)
          · replace h := h.1 c
            refine y_iconst 253 Y dX6_two_253 rfl ?_
            refine y_goto 254 258 Y dX6_two_254 rfl rfl ?_
            refine y_call 258 Y (as := [mi a2, mi 1]) [] dX6_two_258 rfl rfl rfl rfl rfl h (fun r S20 hq hI _ => ?_)
            obtain ⟨rfl, h⟩ := Qv_ok hq
            replace h := h hI
            clear hq
            refine y_iconst 261 Y dX6_two_261 rfl ?_
            exact y_iret 262 Y dX6_two_262 rfl h
          · replace h := h.2 c
            refine y_iload_n 242 Y dX6_two_242 rfl ?_
            refine y_bipush 243 Y dX6_two_243 rfl ?_
            refine y_icmp 245 257 Y dX6_two_245 rfl rfl (fun c => ?_) (fun c => ?_)
            · replace h := h.1 c
              refine y_iconst 257 Y dX6_two_257 rfl ?_
              refine y_call 258 Y (as := [mi a2, mi 0]) [] dX6_two_258 rfl rfl rfl rfl rfl h (fun r S21 hq hI _ => ?_)
              obtain ⟨rfl, h⟩ := Qv_ok hq
              replace h := h hI
              clear hq
              refine y_iconst 261 Y dX6_two_261 rfl ?_
              exact y_iret 262 Y dX6_two_262 rfl h
            · replace h := h.2 c
              refine y_iload 248 Y dX6_two_248 rfl ?_
              refine y_if 250 257 Y dX6_two_250 rfl rfl (fun c => ?_) (fun c => ?_)
              · replace h := h.1 c
                refine y_iconst 257 Y dX6_two_257 rfl ?_
                refine y_call 258 Y (as := [mi a2, mi 0]) [] dX6_two_258 rfl rfl rfl rfl rfl h (fun r S22 hq hI _ => ?_)
                obtain ⟨rfl, h⟩ := Qv_ok hq
                replace h := h hI
                clear hq
                refine y_iconst 261 Y dX6_two_261 rfl ?_
                exact y_iret 262 Y dX6_two_262 rfl h
              · replace h := h.2 c
                refine y_iconst 253 Y dX6_two_253 rfl ?_
                refine y_goto 254 258 Y dX6_two_254 rfl rfl ?_
                refine y_call 258 Y (as := [mi a2, mi 1]) [] dX6_two_258 rfl rfl rfl rfl rfl h (fun r S23 hq hI _ => ?_)
                obtain ⟨rfl, h⟩ := Qv_ok hq
                replace h := h hI
                clear hq
                refine y_iconst 261 Y dX6_two_261 rfl ?_
                exact y_iret 262 Y dX6_two_262 rfl h
      · replace h := h.2 c
        refine y_iload 226 Y dX6_two_226 rfl ?_
        refine y_if 228 253 Y dX6_two_228 rfl rfl (fun c => ?_) (fun c => ?_)
        · replace h := h.1 c
          refine y_iconst 253 Y dX6_two_253 rfl ?_
          refine y_goto 254 258 Y dX6_two_254 rfl rfl ?_
          refine y_call 258 Y (as := [mi a2, mi 1]) [] dX6_two_258 rfl rfl rfl rfl rfl h (fun r S24 hq hI _ => ?_)
          obtain ⟨rfl, h⟩ := Qv_ok hq
          replace h := h hI
          clear hq
          refine y_iconst 261 Y dX6_two_261 rfl ?_
          exact y_iret 262 Y dX6_two_262 rfl h
        · replace h := h.2 c
          refine y_iload_n 231 Y dX6_two_231 rfl ?_
          refine y_bipush 232 Y dX6_two_232 rfl ?_
          refine y_icmp 234 242 Y dX6_two_234 rfl rfl (fun c => ?_) (fun c => ?_)
          · replace h := h.1 c
            refine y_iload_n 242 Y dX6_two_242 rfl ?_
            refine y_bipush 243 Y dX6_two_243 rfl ?_
            refine y_icmp 245 257 Y dX6_two_245 rfl rfl (fun c => ?_) (fun c => ?_)
            · replace h := h.1 c
              refine y_iconst 257 Y dX6_two_257 rfl ?_
              refine y_call 258 Y (as := [mi a2, mi 0]) [] dX6_two_258 rfl rfl rfl rfl rfl h (fun r S25 hq hI _ => ?_)
              obtain ⟨rfl, h⟩ := Qv_ok hq
              replace h := h hI
              clear hq
              refine y_iconst 261 Y dX6_two_261 rfl ?_
              exact y_iret 262 Y dX6_two_262 rfl h
            · replace h := h.2 c
              refine y_iload 248 Y dX6_two_248 rfl ?_
              refine y_if 250 257 Y dX6_two_250 rfl rfl (fun c => ?_) (fun c => ?_)
              · replace h := h.1 c
                refine y_iconst 257 Y dX6_two_257 rfl ?_
                refine y_call 258 Y (as := [mi a2, mi 0]) [] dX6_two_258 rfl rfl rfl rfl rfl h (fun r S26 hq hI _ => ?_)
                obtain ⟨rfl, h⟩ := Qv_ok hq
                replace h := h hI
                clear hq
                refine y_iconst 261 Y dX6_two_261 rfl ?_
                exact y_iret 262 Y dX6_two_262 rfl h
              · replace h := h.2 c
                refine y_iconst 253 Y dX6_two_253 rfl ?_
                refine y_goto 254 258 Y dX6_two_254 rfl rfl ?_
                refine y_call 258 Y (as := [mi a2, mi 1]) [] dX6_two_258 rfl rfl rfl rfl rfl h (fun r S27 hq hI _ => ?_)
                obtain ⟨rfl, h⟩ := Qv_ok hq
                replace h := h hI
                clear hq
                refine y_iconst 261 Y dX6_two_261 rfl ?_
                exact y_iret 262 Y dX6_two_262 rfl h
          · replace h := h.2 c
            refine y_iload 237 Y dX6_two_237 rfl ?_
            refine y_if 239 253 Y dX6_two_239 rfl rfl (fun c => ?_) (fun c => ?_)
            · replace h := h.1 c
              refine y_iconst 253 Y dX6_two_253 rfl ?_
              refine y_goto 254 258 Y dX6_two_254 rfl rfl ?_
              refine y_call 258 Y (as := [mi a2, mi 1]) [] dX6_two_258 rfl rfl rfl rfl rfl h (fun r S28 hq hI _ => ?_)
              obtain ⟨rfl, h⟩ := Qv_ok hq
              replace h := h hI
              clear hq
              refine y_iconst 261 Y dX6_two_261 rfl ?_
              exact y_iret 262 Y dX6_two_262 rfl h
            · replace h := h.2 c
              refine y_iload_n 242 Y dX6_two_242 rfl ?_
              refine y_bipush 243 Y dX6_two_243 rfl ?_
              refine y_icmp 245 257 Y dX6_two_245 rfl rfl (fun c => ?_) (fun c => ?_)
              · replace h := h.1 c
                refine y_iconst 257 Y dX6_two_257 rfl ?_
                refine y_call 258 Y (as := [mi a2, mi 0]) [] dX6_two_258 rfl rfl rfl rfl rfl h (fun r S29 hq hI _ => ?_)
                obtain ⟨rfl, h⟩ := Qv_ok hq
                replace h := h hI
                clear hq
                refine y_iconst 261 Y dX6_two_261 rfl ?_
                exact y_iret 262 Y dX6_two_262 rfl h
              · replace h := h.2 c
                refine y_iload 248 Y dX6_two_248 rfl ?_
                refine y_if 250 257 Y dX6_two_250 rfl rfl (fun c => ?_) (fun c => ?_)
                · replace h := h.1 c
                  refine y_iconst 257 Y dX6_two_257 rfl ?_
                  refine y_call 258 Y (as := [mi a2, mi 0]) [] dX6_two_258 rfl rfl rfl rfl rfl h (fun r S30 hq hI _ => ?_)
                  obtain ⟨rfl, h⟩ := Qv_ok hq
                  replace h := h hI
                  clear hq
                  refine y_iconst 261 Y dX6_two_261 rfl ?_
                  exact y_iret 262 Y dX6_two_262 rfl h
                · replace h := h.2 c
                  refine y_iconst 253 Y dX6_two_253 rfl ?_
                  refine y_goto 254 258 Y dX6_two_254 rfl rfl ?_
                  refine y_call 258 Y (as := [mi a2, mi 1]) [] dX6_two_258 rfl rfl rfl rfl rfl h (fun r S31 hq hI _ => ?_)
                  obtain ⟨rfl, h⟩ := Qv_ok hq
                  replace h := h hI
                  clear hq
                  refine y_iconst 261 Y dX6_two_261 rfl ?_
                  exact y_iret 262 Y dX6_two_262 rfl h
    · replace h := h.2.2.2.2.2.2.2.1 c
      refine y_aload_n 210 Y dX6_two_210 rfl ?_
      refine y_iload_n 211 Y dX6_two_211 rfl ?_
      refine y_iload_n 212 Y dX6_two_212 rfl ?_
      refine y_call 213 Y (as := [mi a2, mi a3]) [] dX6_two_213 rfl rfl rfl rfl rfl h (fun r S32 hq hI hr => ?_)
      obtain ⟨v33, rfl, h⟩ := Qi_ok hq
      replace h := h hI (mokI (hr _ rfl))
      clear hq hr
      refine y_istore 216 Y [some mt, some (mi a1), some (mi a2), some (mi a3), some (mi v33)] dX6_two_216 rfl rfl ?_
      refine y_aload_n 218 Y dX6_two_218 rfl ?_
      refine y_iload_n 219 Y dX6_two_219 rfl ?_
      refine y_iload_n 220 Y dX6_two_220 rfl ?_
      refine y_bipush 221 Y dX6_two_221 rfl ?_
      refine y_icmp 223 231 Y dX6_two_223 rfl rfl (fun c => ?_) (fun c => ?_)
      · replace h := h.1 c
        refine y_iload_n 231 Y dX6_two_231 rfl ?_
        refine y_bipush 232 Y dX6_two_232 rfl ?_
        refine y_icmp 234 242 Y dX6_two_234 rfl rfl (fun c => ?_) (fun c => ?_)
        · replace h := h.1 c
          refine y_iload_n 242 Y dX6_two_242 rfl ?_
          refine y_bipush 243 Y dX6_two_243 rfl ?_
          refine y_icmp 245 257 Y dX6_two_245 rfl rfl (fun c => ?_) (fun c => ?_)
          · replace h := h.1 c
            refine y_iconst 257 Y dX6_two_257 rfl ?_
            refine y_call 258 Y (as := [mi a2, mi 0]) [] dX6_two_258 rfl rfl rfl rfl rfl h (fun r S34 hq hI _ => ?_)
            obtain ⟨rfl, h⟩ := Qv_ok hq
            replace h := h hI
            clear hq
            refine y_iconst 261 Y dX6_two_261 rfl ?_
            exact y_iret 262 Y dX6_two_262 rfl h
          · replace h := h.2 c
            refine y_iload 248 Y dX6_two_248 rfl ?_
            refine y_if 250 257 Y dX6_two_250 rfl rfl (fun c => ?_) (fun c => ?_)
            · replace h := h.1 c
              refine y_iconst 257 Y dX6_two_257 rfl ?_
              refine y_call 258 Y (as := [mi a2, mi 0]) [] dX6_two_258 rfl rfl rfl rfl rfl h (fun r S35 hq hI _ => ?_)
              obtain ⟨rfl, h⟩ := Qv_ok hq
              replace h := h hI
              clear hq
              refine y_iconst 261 Y dX6_two_261 rfl ?_
              exact y_iret 262 Y dX6_two_262 rfl h
            · replace h := h.2 c
              refine y_iconst 253 Y dX6_two_253 rfl ?_
              refine y_goto 254 258 Y dX6_two_254 rfl rfl ?_
              refine y_call 258 Y (as := [mi a2, mi 1]) [] dX6_two_258 rfl rfl rfl rfl rfl h (fun r S36 hq hI _ => ?_)
              obtain ⟨rfl, h⟩ := Qv_ok hq
              replace h := h hI
              clear hq
              refine y_iconst 261 Y dX6_two_261 rfl ?_
              exact y_iret 262 Y dX6_two_262 rfl h
        · replace h := h.2 c
          refine y_iload 237 Y dX6_two_237 rfl ?_
          refine y_if 239 253 Y dX6_two_239 rfl rfl (fun c => ?_) (fun c => ?_)
          · replace h := h.1 c
            refine y_iconst 253 Y dX6_two_253 rfl ?_
            refine y_goto 254 258 Y dX6_two_254 rfl rfl ?_
            refine y_call 258 Y (as := [mi a2, mi 1]) [] dX6_two_258 rfl rfl rfl rfl rfl h (fun r S37 hq hI _ => ?_)
            obtain ⟨rfl, h⟩ := Qv_ok hq
            replace h := h hI
            clear hq
            refine y_iconst 261 Y dX6_two_261 rfl ?_
            exact y_iret 262 Y dX6_two_262 rfl h
          · replace h := h.2 c
            refine y_iload_n 242 Y dX6_two_242 rfl ?_
            refine y_bipush 243 Y dX6_two_243 rfl ?_
            refine y_icmp 245 257 Y dX6_two_245 rfl rfl (fun c => ?_) (fun c => ?_)
            · replace h := h.1 c
              refine y_iconst 257 Y dX6_two_257 rfl ?_
              refine y_call 258 Y (as := [mi a2, mi 0]) [] dX6_two_258 rfl rfl rfl rfl rfl h (fun r S38 hq hI _ => ?_)
              obtain ⟨rfl, h⟩ := Qv_ok hq
              replace h := h hI
              clear hq
              refine y_iconst 261 Y dX6_two_261 rfl ?_
              exact y_iret 262 Y dX6_two_262 rfl h
            · replace h := h.2 c
              refine y_iload 248 Y dX6_two_248 rfl ?_
              refine y_if 250 257 Y dX6_two_250 rfl rfl (fun c => ?_) (fun c => ?_)
              · replace h := h.1 c
                refine y_iconst 257 Y dX6_two_257 rfl ?_
                refine y_call 258 Y (as := [mi a2, mi 0]) [] dX6_two_258 rfl rfl rfl rfl rfl h (fun r S39 hq hI _ => ?_)
                obtain ⟨rfl, h⟩ := Qv_ok hq
                replace h := h hI
                clear hq
                refine y_iconst 261 Y dX6_two_261 rfl ?_
                exact y_iret 262 Y dX6_two_262 rfl h
              · replace h := h.2 c
                refine y_iconst 253 Y dX6_two_253 rfl ?_
                refine y_goto 254 258 Y dX6_two_254 rfl rfl ?_
                refine y_call 258 Y (as := [mi a2, mi 1]) [] dX6_two_258 rfl rfl rfl rfl rfl h (fun r S40 hq hI _ => ?_)
                obtain ⟨rfl, h⟩ := Qv_ok hq
                replace h := h hI
                clear hq
                refine y_iconst 261 Y dX6_two_261 rfl ?_
                exact y_iret 262 Y dX6_two_262 rfl h
      · replace h := h.2 c
        refine y_iload 226 Y dX6_two_226 rfl ?_
        refine y_if 228 253 Y dX6_two_228 rfl rfl (fun c => ?_) (fun c => ?_)
        · replace h := h.1 c
          refine y_iconst 253 Y dX6_two_253 rfl ?_
          refine y_goto 254 258 Y dX6_two_254 rfl rfl ?_
          refine y_call 258 Y (as := [mi a2, mi 1]) [] dX6_two_258 rfl rfl rfl rfl rfl h (fun r S41 hq hI _ => ?_)
          obtain ⟨rfl, h⟩ := Qv_ok hq
          replace h := h hI
          clear hq
          refine y_iconst 261 Y dX6_two_261 rfl ?_
          exact y_iret 262 Y dX6_two_262 rfl h
        · replace h := h.2 c
          refine y_iload_n 231 Y dX6_two_231 rfl ?_
          refine y_bipush 232 Y dX6_two_232 rfl ?_
          refine y_icmp 234 242 Y dX6_two_234 rfl rfl (fun c => ?_) (fun c => ?_)
          · replace h := h.1 c
            refine y_iload_n 242 Y dX6_two_242 rfl ?_
            refine y_bipush 243 Y dX6_two_243 rfl ?_
            refine y_icmp 245 257 Y dX6_two_245 rfl rfl (fun c => ?_) (fun c => ?_)
            · replace h := h.1 c
              refine y_iconst 257 Y dX6_two_257 rfl ?_
              refine y_call 258 Y (as := [mi a2, mi 0]) [] dX6_two_258 rfl rfl rfl rfl rfl h (fun r S42 hq hI _ => ?_)
              obtain ⟨rfl, h⟩ := Qv_ok hq
              replace h := h hI
              clear hq
              refine y_iconst 261 Y dX6_two_261 rfl ?_
              exact y_iret 262 Y dX6_two_262 rfl h
            · replace h := h.2 c
              refine y_iload 248 Y dX6_two_248 rfl ?_
              refine y_if 250 257 Y dX6_two_250 rfl rfl (fun c => ?_) (fun c => ?_)
              · replace h := h.1 c
                refine y_iconst 257 Y dX6_two_257 rfl ?_
                refine y_call 258 Y (as := [mi a2, mi 0]) [] dX6_two_258 rfl rfl rfl rfl rfl h (fun r S43 hq hI _ => ?_)
                obtain ⟨rfl, h⟩ := Qv_ok hq
                replace h := h hI
                clear hq
                refine y_iconst 261 Y dX6_two_261 rfl ?_
                exact y_iret 262 Y dX6_two_262 rfl h
              · replace h := h.2 c
                refine y_iconst 253 Y dX6_two_253 rfl ?_
                refine y_goto 254 258 Y dX6_two_254 rfl rfl ?_
                refine y_call 258 Y (as := [mi a2, mi 1]) [] dX6_two_258 rfl rfl rfl rfl rfl h (fun r S44 hq hI _ => ?_)
                obtain ⟨rfl, h⟩ := Qv_ok hq
                replace h := h hI
                clear hq
                refine y_iconst 261 Y dX6_two_261 rfl ?_
                exact y_iret 262 Y dX6_two_262 rfl h
          · replace h := h.2 c
            refine y_iload 237 Y dX6_two_237 rfl ?_
            refine y_if 239 253 Y dX6_two_239 rfl rfl (fun c => ?_) (fun c => ?_)
            · replace h := h.1 c
              refine y_iconst 253 Y dX6_two_253 rfl ?_
              refine y_goto 254 258 Y dX6_two_254 rfl rfl ?_
              refine y_call 258 Y (as := [mi a2, mi 1]) [] dX6_two_258 rfl rfl rfl rfl rfl h (fun r S45 hq hI _ => ?_)
              obtain ⟨rfl, h⟩ := Qv_ok hq
              replace h := h hI
              clear hq
              refine y_iconst 261 Y dX6_two_261 rfl ?_
              exact y_iret 262 Y dX6_two_262 rfl h
            · replace h := h.2 c
              refine y_iload_n 242 Y dX6_two_242 rfl ?_
              refine y_bipush 243 Y dX6_two_243 rfl ?_
              refine y_icmp 245 257 Y dX6_two_245 rfl rfl (fun c => ?_) (fun c => ?_)
              · replace h := h.1 c
                refine y_iconst 257 Y dX6_two_257 rfl ?_
                refine y_call 258 Y (as := [mi a2, mi 0]) [] dX6_two_258 rfl rfl rfl rfl rfl h (fun r S46 hq hI _ => ?_)
                obtain ⟨rfl, h⟩ := Qv_ok hq
                replace h := h hI
                clear hq
                refine y_iconst 261 Y dX6_two_261 rfl ?_
                exact y_iret 262 Y dX6_two_262 rfl h
              · replace h := h.2 c
                refine y_iload 248 Y dX6_two_248 rfl ?_
                refine y_if 250 257 Y dX6_two_250 rfl rfl (fun c => ?_) (fun c => ?_)
                · replace h := h.1 c
                  refine y_iconst 257 Y dX6_two_257 rfl ?_
                  refine y_call 258 Y (as := [mi a2, mi 0]) [] dX6_two_258 rfl rfl rfl rfl rfl h (fun r S47 hq hI _ => ?_)
                  obtain ⟨rfl, h⟩ := Qv_ok hq
                  replace h := h hI
                  clear hq
                  refine y_iconst 261 Y dX6_two_261 rfl ?_
                  exact y_iret 262 Y dX6_two_262 rfl h
                · replace h := h.2 c
                  refine y_iconst 253 Y dX6_two_253 rfl ?_
                  refine y_goto 254 258 Y dX6_two_254 rfl rfl ?_
                  refine y_call 258 Y (as := [mi a2, mi 1]) [] dX6_two_258 rfl rfl rfl rfl rfl h (fun r S48 hq hI _ => ?_)
                  obtain ⟨rfl, h⟩ := Qv_ok hq
                  replace h := h hI
                  clear hq
                  refine y_iconst 261 Y dX6_two_261 rfl ?_
                  exact y_iret 262 Y dX6_two_262 rfl h
    · replace h := h.2.2.2.2.2.2.2.2.1 c
      refine y_aload_n 210 Y dX6_two_210 rfl ?_
      refine y_iload_n 211 Y dX6_two_211 rfl ?_
      refine y_iload_n 212 Y dX6_two_212 rfl ?_
      refine y_call 213 Y (as := [mi a2, mi a3]) [] dX6_two_213 rfl rfl rfl rfl rfl h (fun r S49 hq hI hr => ?_)
      obtain ⟨v50, rfl, h⟩ := Qi_ok hq
      replace h := h hI (mokI (hr _ rfl))
      clear hq hr
      refine y_istore 216 Y [some mt, some (mi a1), some (mi a2), some (mi a3), some (mi v50)] dX6_two_216 rfl rfl ?_
      refine y_aload_n 218 Y dX6_two_218 rfl ?_
      refine y_iload_n 219 Y dX6_two_219 rfl ?_
      refine y_iload_n 220 Y dX6_two_220 rfl ?_
      refine y_bipush 221 Y dX6_two_221 rfl ?_
      refine y_icmp 223 231 Y dX6_two_223 rfl rfl (fun c => ?_) (fun c => ?_)
      · replace h := h.1 c
        refine y_iload_n 231 Y dX6_two_231 rfl ?_
        refine y_bipush 232 Y dX6_two_232 rfl ?_
        refine y_icmp 234 242 Y dX6_two_234 rfl rfl (fun c => ?_) (fun c => ?_)
        · replace h := h.1 c
          refine y_iload_n 242 Y dX6_two_242 rfl ?_
          refine y_bipush 243 Y dX6_two_243 rfl ?_
          refine y_icmp 245 257 Y dX6_two_245 rfl rfl (fun c => ?_) (fun c => ?_)
          · replace h := h.1 c
            refine y_iconst 257 Y dX6_two_257 rfl ?_
            refine y_call 258 Y (as := [mi a2, mi 0]) [] dX6_two_258 rfl rfl rfl rfl rfl h (fun r S51 hq hI _ => ?_)
            obtain ⟨rfl, h⟩ := Qv_ok hq
            replace h := h hI
            clear hq
            refine y_iconst 261 Y dX6_two_261 rfl ?_
            exact y_iret 262 Y dX6_two_262 rfl h
          · replace h := h.2 c
            refine y_iload 248 Y dX6_two_248 rfl ?_
            refine y_if 250 257 Y dX6_two_250 rfl rfl (fun c => ?_) (fun c => ?_)
            · replace h := h.1 c
              refine y_iconst 257 Y dX6_two_257 rfl ?_
              refine y_call 258 Y (as := [mi a2, mi 0]) [] dX6_two_258 rfl rfl rfl rfl rfl h (fun r S52 hq hI _ => ?_)
              obtain ⟨rfl, h⟩ := Qv_ok hq
              replace h := h hI
              clear hq
              refine y_iconst 261 Y dX6_two_261 rfl ?_
              exact y_iret 262 Y dX6_two_262 rfl h
            · replace h := h.2 c
              refine y_iconst 253 Y dX6_two_253 rfl ?_
              refine y_goto 254 258 Y dX6_two_254 rfl rfl ?_
              refine y_call 258 Y (as := [mi a2, mi 1]) [] dX6_two_258 rfl rfl rfl rfl rfl h (fun r S53 hq hI _ => ?_)
              obtain ⟨rfl, h⟩ := Qv_ok hq
              replace h := h hI
              clear hq
              refine y_iconst 261 Y dX6_two_261 rfl ?_
              exact y_iret 262 Y dX6_two_262 rfl h
        · replace h := h.2 c
          refine y_iload 237 Y dX6_two_237 rfl ?_
          refine y_if 239 253 Y dX6_two_239 rfl rfl (fun c => ?_) (fun c => ?_)
          · replace h := h.1 c
            refine y_iconst 253 Y dX6_two_253 rfl ?_
            refine y_goto 254 258 Y dX6_two_254 rfl rfl ?_
            refine y_call 258 Y (as := [mi a2, mi 1]) [] dX6_two_258 rfl rfl rfl rfl rfl h (fun r S54 hq hI _ => ?_)
            obtain ⟨rfl, h⟩ := Qv_ok hq
            replace h := h hI
            clear hq
            refine y_iconst 261 Y dX6_two_261 rfl ?_
            exact y_iret 262 Y dX6_two_262 rfl h
          · replace h := h.2 c
            refine y_iload_n 242 Y dX6_two_242 rfl ?_
            refine y_bipush 243 Y dX6_two_243 rfl ?_
            refine y_icmp 245 257 Y dX6_two_245 rfl rfl (fun c => ?_) (fun c => ?_)
            · replace h := h.1 c
              refine y_iconst 257 Y dX6_two_257 rfl ?_
              refine y_call 258 Y (as := [mi a2, mi 0]) [] dX6_two_258 rfl rfl rfl rfl rfl h (fun r S55 hq hI _ => ?_)
              obtain ⟨rfl, h⟩ := Qv_ok hq
              replace h := h hI
              clear hq
              refine y_iconst 261 Y dX6_two_261 rfl ?_
              exact y_iret 262 Y dX6_two_262 rfl h
            · replace h := h.2 c
              refine y_iload 248 Y dX6_two_248 rfl ?_
              refine y_if 250 257 Y dX6_two_250 rfl rfl (fun c => ?_) (fun c => ?_)
              · replace h := h.1 c
                refine y_iconst 257 Y dX6_two_257 rfl ?_
                refine y_call 258 Y (as := [mi a2, mi 0]) [] dX6_two_258 rfl rfl rfl rfl rfl h (fun r S56 hq hI _ => ?_)
                obtain ⟨rfl, h⟩ := Qv_ok hq
                replace h := h hI
                clear hq
                refine y_iconst 261 Y dX6_two_261 rfl ?_
                exact y_iret 262 Y dX6_two_262 rfl h
              · replace h := h.2 c
                refine y_iconst 253 Y dX6_two_253 rfl ?_
                refine y_goto 254 258 Y dX6_two_254 rfl rfl ?_
                refine y_call 258 Y (as := [mi a2, mi 1]) [] dX6_two_258 rfl rfl rfl rfl rfl h (fun r S57 hq hI _ => ?_)
                obtain ⟨rfl, h⟩ := Qv_ok hq
                replace h := h hI
                clear hq
                refine y_iconst 261 Y dX6_two_261 rfl ?_
                exact y_iret 262 Y dX6_two_262 rfl h
      · replace h := h.2 c
        refine y_iload 226 Y dX6_two_226 rfl ?_
        refine y_if 228 253 Y dX6_two_228 rfl rfl (fun c => ?_) (fun c => ?_)
        · replace h := h.1 c
          refine y_iconst 253 Y dX6_two_253 rfl ?_
          refine y_goto 254 258 Y dX6_two_254 rfl rfl ?_
          refine y_call 258 Y (as := [mi a2, mi 1]) [] dX6_two_258 rfl rfl rfl rfl rfl h (fun r S58 hq hI _ => ?_)
          obtain ⟨rfl, h⟩ := Qv_ok hq
          replace h := h hI
          clear hq
          refine y_iconst 261 Y dX6_two_261 rfl ?_
          exact y_iret 262 Y dX6_two_262 rfl h
        · replace h := h.2 c
          refine y_iload_n 231 Y dX6_two_231 rfl ?_
          refine y_bipush 232 Y dX6_two_232 rfl ?_
          refine y_icmp 234 242 Y dX6_two_234 rfl rfl (fun c => ?_) (fun c => ?_)
          · replace h := h.1 c
            refine y_iload_n 242 Y dX6_two_242 rfl ?_
            refine y_bipush 243 Y dX6_two_243 rfl ?_
            refine y_icmp 245 257 Y dX6_two_245 rfl rfl (fun c => ?_) (fun c => ?_)
            · replace h := h.1 c
              refine y_iconst 257 Y dX6_two_257 rfl ?_
              refine y_call 258 Y (as := [mi a2, mi 0]) [] dX6_two_258 rfl rfl rfl rfl rfl h (fun r S59 hq hI _ => ?_)
              obtain ⟨rfl, h⟩ := Qv_ok hq
              replace h := h hI
              clear hq
              refine y_iconst 261 Y dX6_two_261 rfl ?_
              exact y_iret 262 Y dX6_two_262 rfl h
            · replace h := h.2 c
              refine y_iload 248 Y dX6_two_248 rfl ?_
              refine y_if 250 257 Y dX6_two_250 rfl rfl (fun c => ?_) (fun c => ?_)
              · replace h := h.1 c
                refine y_iconst 257 Y dX6_two_257 rfl ?_
                refine y_call 258 Y (as := [mi a2, mi 0]) [] dX6_two_258 rfl rfl rfl rfl rfl h (fun r S60 hq hI _ => ?_)
                obtain ⟨rfl, h⟩ := Qv_ok hq
                replace h := h hI
                clear hq
                refine y_iconst 261 Y dX6_two_261 rfl ?_
                exact y_iret 262 Y dX6_two_262 rfl h
              · replace h := h.2 c
                refine y_iconst 253 Y dX6_two_253 rfl ?_
                refine y_goto 254 258 Y dX6_two_254 rfl rfl ?_
                refine y_call 258 Y (as := [mi a2, mi 1]) [] dX6_two_258 rfl rfl rfl rfl rfl h (fun r S61 hq hI _ => ?_)
                obtain ⟨rfl, h⟩ := Qv_ok hq
                replace h := h hI
                clear hq
                refine y_iconst 261 Y dX6_two_261 rfl ?_
                exact y_iret 262 Y dX6_two_262 rfl h
          · replace h := h.2 c
            refine y_iload 237 Y dX6_two_237 rfl ?_
            refine y_if 239 253 Y dX6_two_239 rfl rfl (fun c => ?_) (fun c => ?_)
            · replace h := h.1 c
              refine y_iconst 253 Y dX6_two_253 rfl ?_
              refine y_goto 254 258 Y dX6_two_254 rfl rfl ?_
              refine y_call 258 Y (as := [mi a2, mi 1]) [] dX6_two_258 rfl rfl rfl rfl rfl h (fun r S62 hq hI _ => ?_)
              obtain ⟨rfl, h⟩ := Qv_ok hq
              replace h := h hI
              clear hq
              refine y_iconst 261 Y dX6_two_261 rfl ?_
              exact y_iret 262 Y dX6_two_262 rfl h
            · replace h := h.2 c
              refine y_iload_n 242 Y dX6_two_242 rfl ?_
              refine y_bipush 243 Y dX6_two_243 rfl ?_
              refine y_icmp 245 257 Y dX6_two_245 rfl rfl (fun c => ?_) (fun c => ?_)
              · replace h := h.1 c
                refine y_iconst 257 Y dX6_two_257 rfl ?_
                refine y_call 258 Y (as := [mi a2, mi 0]) [] dX6_two_258 rfl rfl rfl rfl rfl h (fun r S63 hq hI _ => ?_)
                obtain ⟨rfl, h⟩ := Qv_ok hq
                replace h := h hI
                clear hq
                refine y_iconst 261 Y dX6_two_261 rfl ?_
                exact y_iret 262 Y dX6_two_262 rfl h
              · replace h := h.2 c
                refine y_iload 248 Y dX6_two_248 rfl ?_
                refine y_if 250 257 Y dX6_two_250 rfl rfl (fun c => ?_) (fun c => ?_)
                · replace h := h.1 c
                  refine y_iconst 257 Y dX6_two_257 rfl ?_
                  refine y_call 258 Y (as := [mi a2, mi 0]) [] dX6_two_258 rfl rfl rfl rfl rfl h (fun r S64 hq hI _ => ?_)
                  obtain ⟨rfl, h⟩ := Qv_ok hq
                  replace h := h hI
                  clear hq
                  refine y_iconst 261 Y dX6_two_261 rfl ?_
                  exact y_iret 262 Y dX6_two_262 rfl h
                · replace h := h.2 c
                  refine y_iconst 253 Y dX6_two_253 rfl ?_
                  refine y_goto 254 258 Y dX6_two_254 rfl rfl ?_
                  refine y_call 258 Y (as := [mi a2, mi 1]) [] dX6_two_258 rfl rfl rfl rfl rfl h (fun r S65 hq hI _ => ?_)
                  obtain ⟨rfl, h⟩ := Qv_ok hq
                  replace h := h hI
                  clear hq
                  refine y_iconst 261 Y dX6_two_261 rfl ?_
                  exact y_iret 262 Y dX6_two_262 rfl h
    · replace h := h.2.2.2.2.2.2.2.2.2.1 c
      refine y_aload_n 154 Y dX6_two_154 rfl ?_
      refine y_iload_n 155 Y dX6_two_155 rfl ?_
      refine y_aload_n 156 Y dX6_two_156 rfl ?_
      refine y_iload_n 157 Y dX6_two_157 rfl ?_
      refine y_call 158 Y (as := [mi a2]) [mi a2, mt] dX6_two_158 rfl rfl rfl rfl rfl h (fun r S66 hq hI hr => ?_)
      obtain ⟨v67, rfl, h⟩ := Qi_ok hq
      replace h := h hI (mokI (hr _ rfl))
      clear hq hr
      refine y_if 161 176 Y dX6_two_161 rfl rfl (fun c => ?_) (fun c => ?_)
      · replace h := h.1 c
        refine y_iconst 176 Y dX6_two_176 rfl ?_
        refine y_call 177 Y (as := [mi a2, mi 0]) [] dX6_two_177 rfl rfl rfl rfl rfl h (fun r S68 hq hI _ => ?_)
        obtain ⟨rfl, h⟩ := Qv_ok hq
        replace h := h hI
        clear hq
        refine y_iconst 180 Y dX6_two_180 rfl ?_
        exact y_iret 181 Y dX6_two_181 rfl h
      · replace h := h.2 c
        refine y_aload_n 164 Y dX6_two_164 rfl ?_
        refine y_iload_n 165 Y dX6_two_165 rfl ?_
        refine y_call 166 Y (as := [mi a3]) [mi a2, mt] dX6_two_166 rfl rfl rfl rfl rfl h (fun r S69 hq hI hr => ?_)
        obtain ⟨v70, rfl, h⟩ := Qi_ok hq
        replace h := h hI (mokI (hr _ rfl))
        clear hq hr
        refine y_if 169 176 Y dX6_two_169 rfl rfl (fun c => ?_) (fun c => ?_)
        · replace h := h.1 c
          refine y_iconst 176 Y dX6_two_176 rfl ?_
          refine y_call 177 Y (as := [mi a2, mi 0]) [] dX6_two_177 rfl rfl rfl rfl rfl h (fun r S71 hq hI _ => ?_)
          obtain ⟨rfl, h⟩ := Qv_ok hq
          replace h := h hI
          clear hq
          refine y_iconst 180 Y dX6_two_180 rfl ?_
          exact y_iret 181 Y dX6_two_181 rfl h
        · replace h := h.2 c
          refine y_iconst 172 Y dX6_two_172 rfl ?_
          refine y_goto 173 177 Y dX6_two_173 rfl rfl ?_
          refine y_call 177 Y (as := [mi a2, mi 1]) [] dX6_two_177 rfl rfl rfl rfl rfl h (fun r S72 hq hI _ => ?_)
          obtain ⟨rfl, h⟩ := Qv_ok hq
          replace h := h hI
          clear hq
          refine y_iconst 180 Y dX6_two_180 rfl ?_
          exact y_iret 181 Y dX6_two_181 rfl h
    · replace h := h.2.2.2.2.2.2.2.2.2.2.1 c
      refine y_aload_n 182 Y dX6_two_182 rfl ?_
      refine y_iload_n 183 Y dX6_two_183 rfl ?_
      refine y_aload_n 184 Y dX6_two_184 rfl ?_
      refine y_iload_n 185 Y dX6_two_185 rfl ?_
      refine y_call 186 Y (as := [mi a2]) [mi a2, mt] dX6_two_186 rfl rfl rfl rfl rfl h (fun r S73 hq hI hr => ?_)
      obtain ⟨v74, rfl, h⟩ := Qi_ok hq
      replace h := h hI (mokI (hr _ rfl))
      clear hq hr
      refine y_if 189 200 Y dX6_two_189 rfl rfl (fun c => ?_) (fun c => ?_)
      · replace h := h.1 c
        refine y_iconst 200 Y dX6_two_200 rfl ?_
        refine y_goto 201 205 Y dX6_two_201 rfl rfl ?_
        refine y_call 205 Y (as := [mi a2, mi 1]) [] dX6_two_205 rfl rfl rfl rfl rfl h (fun r S75 hq hI _ => ?_)
        obtain ⟨rfl, h⟩ := Qv_ok hq
        replace h := h hI
        clear hq
        refine y_iconst 208 Y dX6_two_208 rfl ?_
        exact y_iret 209 Y dX6_two_209 rfl h
      · replace h := h.2 c
        refine y_aload_n 192 Y dX6_two_192 rfl ?_
        refine y_iload_n 193 Y dX6_two_193 rfl ?_
        refine y_call 194 Y (as := [mi a3]) [mi a2, mt] dX6_two_194 rfl rfl rfl rfl rfl h (fun r S76 hq hI hr => ?_)
        obtain ⟨v77, rfl, h⟩ := Qi_ok hq
        replace h := h hI (mokI (hr _ rfl))
        clear hq hr
        refine y_if 197 204 Y dX6_two_197 rfl rfl (fun c => ?_) (fun c => ?_)
        · replace h := h.1 c
          refine y_iconst 204 Y dX6_two_204 rfl ?_
          refine y_call 205 Y (as := [mi a2, mi 0]) [] dX6_two_205 rfl rfl rfl rfl rfl h (fun r S78 hq hI _ => ?_)
          obtain ⟨rfl, h⟩ := Qv_ok hq
          replace h := h hI
          clear hq
          refine y_iconst 208 Y dX6_two_208 rfl ?_
          exact y_iret 209 Y dX6_two_209 rfl h
        · replace h := h.2 c
          refine y_iconst 200 Y dX6_two_200 rfl ?_
          refine y_goto 201 205 Y dX6_two_201 rfl rfl ?_
          refine y_call 205 Y (as := [mi a2, mi 1]) [] dX6_two_205 rfl rfl rfl rfl rfl h (fun r S79 hq hI _ => ?_)
          obtain ⟨rfl, h⟩ := Qv_ok hq
          replace h := h hI
          clear hq
          refine y_iconst 208 Y dX6_two_208 rfl ?_
          exact y_iret 209 Y dX6_two_209 rfl h
    · replace h := h.2.2.2.2.2.2.2.2.2.2.2 c
      refine y_aload_n 210 Y dX6_two_210 rfl ?_
      refine y_iload_n 211 Y dX6_two_211 rfl ?_
      refine y_iload_n 212 Y dX6_two_212 rfl ?_
      refine y_call 213 Y (as := [mi a2, mi a3]) [] dX6_two_213 rfl rfl rfl rfl rfl h (fun r S80 hq hI hr => ?_)
      obtain ⟨v81, rfl, h⟩ := Qi_ok hq
      replace h := h hI (mokI (hr _ rfl))
      clear hq hr
      refine y_istore 216 Y [some mt, some (mi a1), some (mi a2), some (mi a3), some (mi v81)] dX6_two_216 rfl rfl ?_
      refine y_aload_n 218 Y dX6_two_218 rfl ?_
      refine y_iload_n 219 Y dX6_two_219 rfl ?_
      refine y_iload_n 220 Y dX6_two_220 rfl ?_
      refine y_bipush 221 Y dX6_two_221 rfl ?_
      refine y_icmp 223 231 Y dX6_two_223 rfl rfl (fun c => ?_) (fun c => ?_)
      · replace h := h.1 c
        refine y_iload_n 231 Y dX6_two_231 rfl ?_
        refine y_bipush 232 Y dX6_two_232 rfl ?_
        refine y_icmp 234 242 Y dX6_two_234 rfl rfl (fun c => ?_) (fun c => ?_)
        · replace h := h.1 c
          refine y_iload_n 242 Y dX6_two_242 rfl ?_
          refine y_bipush 243 Y dX6_two_243 rfl ?_
          refine y_icmp 245 257 Y dX6_two_245 rfl rfl (fun c => ?_) (fun c => ?_)
          · replace h := h.1 c
            refine y_iconst 257 Y dX6_two_257 rfl ?_
            refine y_call 258 Y (as := [mi a2, mi 0]) [] dX6_two_258 rfl rfl rfl rfl rfl h (fun r S82 hq hI _ => ?_)
            obtain ⟨rfl, h⟩ := Qv_ok hq
            replace h := h hI
            clear hq
            refine y_iconst 261 Y dX6_two_261 rfl ?_
            exact y_iret 262 Y dX6_two_262 rfl h
          · replace h := h.2 c
            refine y_iload 248 Y dX6_two_248 rfl ?_
            refine y_if 250 257 Y dX6_two_250 rfl rfl (fun c => ?_) (fun c => ?_)
            · replace h := h.1 c
              refine y_iconst 257 Y dX6_two_257 rfl ?_
              refine y_call 258 Y (as := [mi a2, mi 0]) [] dX6_two_258 rfl rfl rfl rfl rfl h (fun r S83 hq hI _ => ?_)
              obtain ⟨rfl, h⟩ := Qv_ok hq
              replace h := h hI
              clear hq
              refine y_iconst 261 Y dX6_two_261 rfl ?_
              exact y_iret 262 Y dX6_two_262 rfl h
            · replace h := h.2 c
              refine y_iconst 253 Y dX6_two_253 rfl ?_
              refine y_goto 254 258 Y dX6_two_254 rfl rfl ?_
              refine y_call 258 Y (as := [mi a2, mi 1]) [] dX6_two_258 rfl rfl rfl rfl rfl h (fun r S84 hq hI _ => ?_)
              obtain ⟨rfl, h⟩ := Qv_ok hq
              replace h := h hI
              clear hq
              refine y_iconst 261 Y dX6_two_261 rfl ?_
              exact y_iret 262 Y dX6_two_262 rfl h
        · replace h := h.2 c
          refine y_iload 237 Y dX6_two_237 rfl ?_
          refine y_if 239 253 Y dX6_two_239 rfl rfl (fun c => ?_) (fun c => ?_)
          · replace h := h.1 c
            refine y_iconst 253 Y dX6_two_253 rfl ?_
            refine y_goto 254 258 Y dX6_two_254 rfl rfl ?_
            refine y_call 258 Y (as := [mi a2, mi 1]) [] dX6_two_258 rfl rfl rfl rfl rfl h (fun r S85 hq hI _ => ?_)
            obtain ⟨rfl, h⟩ := Qv_ok hq
            replace h := h hI
            clear hq
            refine y_iconst 261 Y dX6_two_261 rfl ?_
            exact y_iret 262 Y dX6_two_262 rfl h
          · replace h := h.2 c
            refine y_iload_n 242 Y dX6_two_242 rfl ?_
            refine y_bipush 243 Y dX6_two_243 rfl ?_
            refine y_icmp 245 257 Y dX6_two_245 rfl rfl (fun c => ?_) (fun c => ?_)
            · replace h := h.1 c
              refine y_iconst 257 Y dX6_two_257 rfl ?_
              refine y_call 258 Y (as := [mi a2, mi 0]) [] dX6_two_258 rfl rfl rfl rfl rfl h (fun r S86 hq hI _ => ?_)
              obtain ⟨rfl, h⟩ := Qv_ok hq
              replace h := h hI
              clear hq
              refine y_iconst 261 Y dX6_two_261 rfl ?_
              exact y_iret 262 Y dX6_two_262 rfl h
            · replace h := h.2 c
              refine y_iload 248 Y dX6_two_248 rfl ?_
              refine y_if 250 257 Y dX6_two_250 rfl rfl (fun c => ?_) (fun c => ?_)
              · replace h := h.1 c
                refine y_iconst 257 Y dX6_two_257 rfl ?_
                refine y_call 258 Y (as := [mi a2, mi 0]) [] dX6_two_258 rfl rfl rfl rfl rfl h (fun r S87 hq hI _ => ?_)
                obtain ⟨rfl, h⟩ := Qv_ok hq
                replace h := h hI
                clear hq
                refine y_iconst 261 Y dX6_two_261 rfl ?_
                exact y_iret 262 Y dX6_two_262 rfl h
              · replace h := h.2 c
                refine y_iconst 253 Y dX6_two_253 rfl ?_
                refine y_goto 254 258 Y dX6_two_254 rfl rfl ?_
                refine y_call 258 Y (as := [mi a2, mi 1]) [] dX6_two_258 rfl rfl rfl rfl rfl h (fun r S88 hq hI _ => ?_)
                obtain ⟨rfl, h⟩ := Qv_ok hq
                replace h := h hI
                clear hq
                refine y_iconst 261 Y dX6_two_261 rfl ?_
                exact y_iret 262 Y dX6_two_262 rfl h
      · replace h := h.2 c
        refine y_iload 226 Y dX6_two_226 rfl ?_
        refine y_if 228 253 Y dX6_two_228 rfl rfl (fun c => ?_) (fun c => ?_)
        · replace h := h.1 c
          refine y_iconst 253 Y dX6_two_253 rfl ?_
          refine y_goto 254 258 Y dX6_two_254 rfl rfl ?_
          refine y_call 258 Y (as := [mi a2, mi 1]) [] dX6_two_258 rfl rfl rfl rfl rfl h (fun r S89 hq hI _ => ?_)
          obtain ⟨rfl, h⟩ := Qv_ok hq
          replace h := h hI
          clear hq
          refine y_iconst 261 Y dX6_two_261 rfl ?_
          exact y_iret 262 Y dX6_two_262 rfl h
        · replace h := h.2 c
          refine y_iload_n 231 Y dX6_two_231 rfl ?_
          refine y_bipush 232 Y dX6_two_232 rfl ?_
          refine y_icmp 234 242 Y dX6_two_234 rfl rfl (fun c => ?_) (fun c => ?_)
          · replace h := h.1 c
            refine y_iload_n 242 Y dX6_two_242 rfl ?_
            refine y_bipush 243 Y dX6_two_243 rfl ?_
            refine y_icmp 245 257 Y dX6_two_245 rfl rfl (fun c => ?_) (fun c => ?_)
            · replace h := h.1 c
              refine y_iconst 257 Y dX6_two_257 rfl ?_
              refine y_call 258 Y (as := [mi a2, mi 0]) [] dX6_two_258 rfl rfl rfl rfl rfl h (fun r S90 hq hI _ => ?_)
              obtain ⟨rfl, h⟩ := Qv_ok hq
              replace h := h hI
              clear hq
              refine y_iconst 261 Y dX6_two_261 rfl ?_
              exact y_iret 262 Y dX6_two_262 rfl h
            · replace h := h.2 c
              refine y_iload 248 Y dX6_two_248 rfl ?_
              refine y_if 250 257 Y dX6_two_250 rfl rfl (fun c => ?_) (fun c => ?_)
              · replace h := h.1 c
                refine y_iconst 257 Y dX6_two_257 rfl ?_
                refine y_call 258 Y (as := [mi a2, mi 0]) [] dX6_two_258 rfl rfl rfl rfl rfl h (fun r S91 hq hI _ => ?_)
                obtain ⟨rfl, h⟩ := Qv_ok hq
                replace h := h hI
                clear hq
                refine y_iconst 261 Y dX6_two_261 rfl ?_
                exact y_iret 262 Y dX6_two_262 rfl h
              · replace h := h.2 c
                refine y_iconst 253 Y dX6_two_253 rfl ?_
                refine y_goto 254 258 Y dX6_two_254 rfl rfl ?_
                refine y_call 258 Y (as := [mi a2, mi 1]) [] dX6_two_258 rfl rfl rfl rfl rfl h (fun r S92 hq hI _ => ?_)
                obtain ⟨rfl, h⟩ := Qv_ok hq
                replace h := h hI
                clear hq
                refine y_iconst 261 Y dX6_two_261 rfl ?_
                exact y_iret 262 Y dX6_two_262 rfl h
          · replace h := h.2 c
            refine y_iload 237 Y dX6_two_237 rfl ?_
            refine y_if 239 253 Y dX6_two_239 rfl rfl (fun c => ?_) (fun c => ?_)
            · replace h := h.1 c
              refine y_iconst 253 Y dX6_two_253 rfl ?_
              refine y_goto 254 258 Y dX6_two_254 rfl rfl ?_
              refine y_call 258 Y (as := [mi a2, mi 1]) [] dX6_two_258 rfl rfl rfl rfl rfl h (fun r S93 hq hI _ => ?_)
              obtain ⟨rfl, h⟩ := Qv_ok hq
              replace h := h hI
              clear hq
              refine y_iconst 261 Y dX6_two_261 rfl ?_
              exact y_iret 262 Y dX6_two_262 rfl h
            · replace h := h.2 c
              refine y_iload_n 242 Y dX6_two_242 rfl ?_
              refine y_bipush 243 Y dX6_two_243 rfl ?_
              refine y_icmp 245 257 Y dX6_two_245 rfl rfl (fun c => ?_) (fun c => ?_)
              · replace h := h.1 c
                refine y_iconst 257 Y dX6_two_257 rfl ?_
                refine y_call 258 Y (as := [mi a2, mi 0]) [] dX6_two_258 rfl rfl rfl rfl rfl h (fun r S94 hq hI _ => ?_)
                obtain ⟨rfl, h⟩ := Qv_ok hq
                replace h := h hI
                clear hq
                refine y_iconst 261 Y dX6_two_261 rfl ?_
                exact y_iret 262 Y dX6_two_262 rfl h
              · replace h := h.2 c
                refine y_iload 248 Y dX6_two_248 rfl ?_
                refine y_if 250 257 Y dX6_two_250 rfl rfl (fun c => ?_) (fun c => ?_)
                · replace h := h.1 c
                  refine y_iconst 257 Y dX6_two_257 rfl ?_
                  refine y_call 258 Y (as := [mi a2, mi 0]) [] dX6_two_258 rfl rfl rfl rfl rfl h (fun r S95 hq hI _ => ?_)
                  obtain ⟨rfl, h⟩ := Qv_ok hq
                  replace h := h hI
                  clear hq
                  refine y_iconst 261 Y dX6_two_261 rfl ?_
                  exact y_iret 262 Y dX6_two_262 rfl h
                · replace h := h.2 c
                  refine y_iconst 253 Y dX6_two_253 rfl ?_
                  refine y_goto 254 258 Y dX6_two_254 rfl rfl ?_
                  refine y_call 258 Y (as := [mi a2, mi 1]) [] dX6_two_258 rfl rfl rfl rfl rfl h (fun r S96 hq hI _ => ?_)
                  obtain ⟨rfl, h⟩ := Qv_ok hq
                  replace h := h hI
                  clear hq
                  refine y_iconst 261 Y dX6_two_261 rfl ?_
                  exact y_iret 262 Y dX6_two_262 rfl h
  · intro n pc L st T hi
    exact hi.elim
set_option maxHeartbeats 4000000 in
theorem of_applies {g : mG} {S : mS} {a1 a2 : Int} {Qp : Option mV → mS → Prop}
    (hE : mI S → (-2147483648 ≤ a1 ∧ a1 ≤ 2147483647) → (-2147483648 ≤ a2 ∧ a2 ≤ 2147483647) → (0 ≤ a2) ∧ (a2 < 20300) ∧ (0 ≤ a1) ∧ (a1 < 800) ∧ (((S 7 a2) ≤ (S 49 a1)) → (((S 49 a1) ≤ (S 7 a2)) → CX_count g [mt] S (Qi fun v6 S5 => mI S5 → (-2147483648 ≤ v6 ∧ v6 ≤ 2147483647) → (((S5 4 a2) ≠ 2) → CX_meaningAt g [mt, mi a2] S5 (Qi fun v8 S7 => mI S7 → (-2147483648 ≤ v8 ∧ v8 ≤ 2147483647) → ((v6 ≤ 0) → ((v8 < 100) → (-2147483648 ≤ (((S7 56 0) - 1) : Int) ∧ ((S7 56 0) - 1) ≤ 2147483647) ∧ (((S 7 a2) ≠ 1) → (-2147483648 ≤ (((S7 61 0) - 1) : Int) ∧ ((S7 61 0) - 1) ≤ 2147483647) ∧ CX_top g [mt] (mup (mup S7 56 0 ((S7 56 0) - 1)) 61 0 ((S7 61 0) - 1)) (Qi fun v12 S11 => mI S11 → (-2147483648 ≤ v12 ∧ v12 ≤ 2147483647) → CX_top g [mt] S11 (Qi fun v14 S13 => mI S13 → (-2147483648 ≤ v14 ∧ v14 ≤ 2147483647) → (-2147483648 ≤ ((v14 + 1) : Int) ∧ (v14 + 1) ≤ 2147483647) ∧ CX_two g [mt, mi v8, mi v12, mi (v14 + 1)] S13 (Qi fun v17 S16 => mI S16 → (-2147483648 ≤ v17 ∧ v17 ≤ 2147483647) → Qp (some (mi v17)) S16)))) ∧ (¬ ((S 7 a2) ≠ 1) → CX_top g [mt] (mup S7 56 0 ((S7 56 0) - 1)) (Qi fun v19 S18 => mI S18 → (-2147483648 ≤ v19 ∧ v19 ≤ 2147483647) → CX_one g [mt, mi v8, mi v19] S18 (Qi fun v21 S20 => mI S20 → (-2147483648 ≤ v21 ∧ v21 ≤ 2147483647) → Qp (some (mi v21)) S20)))) ∧ (¬ (v8 < 100) → (-2147483648 ≤ ((v8 - 100) : Int) ∧ (v8 - 100) ≤ 2147483647) ∧ CX_callFunction g [mt, mi a1, mi a2, mi (v8 - 100)] S7 (Qi fun v24 S23 => mI S23 → (-2147483648 ≤ v24 ∧ v24 ≤ 2147483647) → Qp (some (mi v24)) S23))) ∧ (¬ (v6 ≤ 0) → Qp (some (mi v6)) S7))) ∧ (¬ ((S5 4 a2) ≠ 2) → (-2147483648 ≤ ((100 + (S5 5 a2)) : Int) ∧ (100 + (S5 5 a2)) ≤ 2147483647) ∧ (-2147483648 ≤ (((100 + (S5 5 a2)) - 97) : Int) ∧ ((100 + (S5 5 a2)) - 97) ≤ 2147483647) ∧ ((v6 ≤ 0) → ((((100 + (S5 5 a2)) - 97) < 100) → (-2147483648 ≤ (((S5 56 0) - 1) : Int) ∧ ((S5 56 0) - 1) ≤ 2147483647) ∧ (((S 7 a2) ≠ 1) → (-2147483648 ≤ (((S5 61 0) - 1) : Int) ∧ ((S5 61 0) - 1) ≤ 2147483647) ∧ CX_top g [mt] (mup (mup S5 56 0 ((S5 56 0) - 1)) 61 0 ((S5 61 0) - 1)) (Qi fun v30 S29 => mI S29 → (-2147483648 ≤ v30 ∧ v30 ≤ 2147483647) → CX_top g [mt] S29 (Qi fun v32 S31 => mI S31 → (-2147483648 ≤ v32 ∧ v32 ≤ 2147483647) → (-2147483648 ≤ ((v32 + 1) : Int) ∧ (v32 + 1) ≤ 2147483647) ∧ CX_two g [mt, mi ((100 + (S5 5 a2)) - 97), mi v30, mi (v32 + 1)] S31 (Qi fun v35 S34 => mI S34 → (-2147483648 ≤ v35 ∧ v35 ≤ 2147483647) → Qp (some (mi v35)) S34)))) ∧ (¬ ((S 7 a2) ≠ 1) → CX_top g [mt] (mup S5 56 0 ((S5 56 0) - 1)) (Qi fun v37 S36 => mI S36 → (-2147483648 ≤ v37 ∧ v37 ≤ 2147483647) → CX_one g [mt, mi ((100 + (S5 5 a2)) - 97), mi v37] S36 (Qi fun v39 S38 => mI S38 → (-2147483648 ≤ v39 ∧ v39 ≤ 2147483647) → Qp (some (mi v39)) S38)))) ∧ (¬ (((100 + (S5 5 a2)) - 97) < 100) → (-2147483648 ≤ ((((100 + (S5 5 a2)) - 97) - 100) : Int) ∧ (((100 + (S5 5 a2)) - 97) - 100) ≤ 2147483647) ∧ CX_callFunction g [mt, mi a1, mi a2, mi (((100 + (S5 5 a2)) - 97) - 100)] S5 (Qi fun v42 S41 => mI S41 → (-2147483648 ≤ v42 ∧ v42 ≤ 2147483647) → Qp (some (mi v42)) S41))) ∧ (¬ (v6 ≤ 0) → Qp (some (mi v6)) S5)))) ∧ (¬ ((S 49 a1) ≤ (S 7 a2)) → (-2147483648 ≤ (((S 49 a1) - (S 7 a2)) : Int) ∧ ((S 49 a1) - (S 7 a2)) ≤ 2147483647) ∧ CX_cases g [mt, mi a1, mi ((S 49 a1) - (S 7 a2))] S (Qi fun v45 S44 => mI S44 → (-2147483648 ≤ v45 ∧ v45 ≤ 2147483647) → Qp (some (mi v45)) S44))) ∧ (¬ ((S 7 a2) ≤ (S 49 a1)) → (-2147483648 ≤ (((S 49 a1) + 1) : Int) ∧ ((S 49 a1) + 1) ≤ 2147483647) ∧ (-2147483648 ≤ ((mup S 49 a1 ((S 49 a1) + 1)) 49 a1) ∧ ((mup S 49 a1 ((S 49 a1) + 1)) 49 a1) ≤ 2147483647 → (-2147483648 ≤ ((((mup S 49 a1 ((S 49 a1) + 1)) 49 a1) - 1) : Int) ∧ (((mup S 49 a1 ((S 49 a1) + 1)) 49 a1) - 1) ≤ 2147483647) ∧ CX_child g [mt, mi a2, mi (((mup S 49 a1 ((S 49 a1) + 1)) 49 a1) - 1)] (mup S 49 a1 ((S 49 a1) + 1)) (Qi fun v49 S48 => mI S48 → (-2147483648 ≤ v49 ∧ v49 ≤ 2147483647) → CX_enter g [mt, mi v49, mi (S48 50 a1)] S48 (Qv fun S50 => mI S50 → Qp (some (mi 0)) S50)))))
    : CX_applies g [mt, mi a1, mi a2] S Qp := by
  refine cm_y ⟨by decide, rfl⟩ (by simp [mcat]) (by simp) (fun _ _ _ _ _ => False) ?_ ?_
  · intro ha hS P Y Wk hIc
    have h := hE hS (mokI (ha (mi a1) (by simp))) (mokI (ha (mi a2) (by simp)))
    clear hE ha
    refine y_aload_n 0 Y dX6_applies_0 rfl ?_
    refine y_geta 1 Y 7 dX6_applies_1 rfl rfl ?_
    refine y_iload_n 4 Y dX6_applies_4 rfl ?_
    obtain ⟨o1, h⟩ := h
    obtain ⟨o2, h⟩ := h
    refine y_iald 5 Y dX6_applies_5 rfl rfl o1 o2 (fun _ => ?_)
    refine y_istore_n 6 Y [some mt, some (mi a1), some (mi a2), some (mi (S 7 a2)), none, none] dX6_applies_6 rfl rfl ?_
    refine y_aload_n 7 Y dX6_applies_7 rfl ?_
    refine y_geta 8 Y 49 dX6_applies_8 rfl rfl ?_
    refine y_iload_n 11 Y dX6_applies_11 rfl ?_
    obtain ⟨o3, h⟩ := h
    obtain ⟨o4, h⟩ := h
    refine y_iald 12 Y dX6_applies_12 rfl rfl o3 o4 (fun _ => ?_)
    refine y_iload_n 13 Y dX6_applies_13 rfl ?_
    refine y_icmp 14 52 Y dX6_applies_14 rfl rfl (fun c => ?_) (fun c => ?_)
    · replace h := h.1 c
      refine y_aload_n 52 Y dX6_applies_52 rfl ?_
      refine y_geta 53 Y 49 dX6_applies_53 rfl rfl ?_
      refine y_iload_n 56 Y dX6_applies_56 rfl ?_
      refine y_iald 57 Y dX6_applies_57 rfl rfl o3 o4 (fun _ => ?_)
      refine y_iload_n 58 Y dX6_applies_58 rfl ?_
      refine y_icmp 59 76 Y dX6_applies_59 rfl rfl (fun c => ?_) (fun c => ?_)
      · replace h := h.1 c
        refine y_aload_n 76 Y dX6_applies_76 rfl ?_
        refine y_call 77 Y (as := []) [] dX6_applies_77 rfl rfl rfl rfl rfl h (fun r S5 hq hI hr => ?_)
        obtain ⟨v6, rfl, h⟩ := Qi_ok hq
        replace h := h hI (mokI (hr _ rfl))
        clear hq hr
        refine y_istore 80 Y [some mt, some (mi a1), some (mi a2), some (mi (S 7 a2)), some (mi v6), none] dX6_applies_80 rfl rfl ?_
        refine y_aload_n 82 Y dX6_applies_82 rfl ?_
        refine y_geta 83 Y 4 dX6_applies_83 rfl rfl ?_
        refine y_iload_n 86 Y dX6_applies_86 rfl ?_
        refine y_iald 87 Y dX6_applies_87 rfl rfl o1 o2 (fun _ => ?_)
        refine y_iconst 88 Y dX6_applies_88 rfl ?_
        refine y_icmp 89 107 Y dX6_applies_89 rfl rfl (fun c => ?_) (fun c => ?_)
        · replace h := h.1 c
          refine y_aload_n 107 Y dX6_applies_107 rfl ?_
          refine y_iload_n 108 Y dX6_applies_108 rfl ?_
          refine y_call 109 Y (as := [mi a2]) [] dX6_applies_109 rfl rfl rfl rfl rfl h (fun r S7 hq hI hr => ?_)
          obtain ⟨v8, rfl, h⟩ := Qi_ok hq
          replace h := h hI (mokI (hr _ rfl))
          clear hq hr
          refine y_istore 112 Y [some mt, some (mi a1), some (mi a2), some (mi (S 7 a2)), some (mi v6), some (mi v8)] dX6_applies_112 rfl rfl ?_
          refine y_iload 114 Y dX6_applies_114 rfl ?_
          refine y_if 116 122 Y dX6_applies_116 rfl rfl (fun c => ?_) (fun c => ?_)
          · replace h := h.1 c
            refine y_iload 122 Y dX6_applies_122 rfl ?_
            refine y_bipush 124 Y dX6_applies_124 rfl ?_
            refine y_icmp 126 141 Y dX6_applies_126 rfl rfl (fun c => ?_) (fun c => ?_)
            · replace h := h.1 c
              refine y_aload_n 141 Y dX6_applies_141 rfl ?_
              refine y_dup 142 Y dX6_applies_142 rfl ?_
              refine y_getf 143 Y 56 dX6_applies_143 rfl rfl (fun _ => ?_)
              refine y_iconst 146 Y dX6_applies_146 rfl ?_
              obtain ⟨o9, h⟩ := h
              refine y_isub 147 Y dX6_applies_147 o9 ?_
              refine y_putf 148 Y 56 dX6_applies_148 rfl rfl (fun q => absurd q (by decide)) ?_
              refine y_iload_n 151 Y dX6_applies_151 rfl ?_
              refine y_iconst 152 Y dX6_applies_152 rfl ?_
              refine y_icmp 153 167 Y dX6_applies_153 rfl rfl (fun c => ?_) (fun c => ?_)
              · replace h := h.1 c
                refine y_aload_n 167 Y dX6_applies_167 rfl ?_
                refine y_dup 168 Y dX6_applies_168 rfl ?_
                refine y_getf 169 Y 61 dX6_applies_169 rfl rfl (fun _ => ?_)
                refine y_iconst 172 Y dX6_applies_172 rfl ?_
                obtain ⟨o10, h⟩ := h
                refine y_isub 173 Y dX6_applies_173 o10 ?_
                refine y_putf 174 Y 61 dX6_applies_174 rfl rfl (fun q => absurd q (by decide)) ?_
                refine y_aload_n 177 Y dX6_applies_177 rfl ?_
                refine y_iload 178 Y dX6_applies_178 rfl ?_
                refine y_aload_n 180 Y dX6_applies_180 rfl ?_
                refine y_call 181 Y (as := []) [mi v8, mt] dX6_applies_181 rfl rfl rfl rfl rfl h (fun r S11 hq hI hr => ?_)
                obtain ⟨v12, rfl, h⟩ := Qi_ok hq
                replace h := h hI (mokI (hr _ rfl))
                clear hq hr
                refine y_aload_n 184 Y dX6_applies_184 rfl ?_
                refine y_call 185 Y (as := []) [mi v12, mi v8, mt] dX6_applies_185 rfl rfl rfl rfl rfl h (fun r S13 hq hI hr => ?_)
                obtain ⟨v14, rfl, h⟩ := Qi_ok hq
                replace h := h hI (mokI (hr _ rfl))
                clear hq hr
                refine y_iconst 188 Y dX6_applies_188 rfl ?_
                obtain ⟨o15, h⟩ := h
                refine y_iadd 189 Y dX6_applies_189 o15 ?_
                refine y_call 190 Y (as := [mi v8, mi v12, mi (v14 + 1)]) [] dX6_applies_190 rfl rfl rfl rfl rfl h (fun r S16 hq hI hr => ?_)
                obtain ⟨v17, rfl, h⟩ := Qi_ok hq
                replace h := h hI (mokI (hr _ rfl))
                clear hq hr
                exact y_iret 193 Y dX6_applies_193 rfl h
              · replace h := h.2 c
                refine y_aload_n 156 Y dX6_applies_156 rfl ?_
                refine y_iload 157 Y dX6_applies_157 rfl ?_
                refine y_aload_n 159 Y dX6_applies_159 rfl ?_
                refine y_call 160 Y (as := []) [mi v8, mt] dX6_applies_160 rfl rfl rfl rfl rfl h (fun r S18 hq hI hr => ?_)
                obtain ⟨v19, rfl, h⟩ := Qi_ok hq
                replace h := h hI (mokI (hr _ rfl))
                clear hq hr
                refine y_call 163 Y (as := [mi v8, mi v19]) [] dX6_applies_163 rfl rfl rfl rfl rfl h (fun r S20 hq hI hr => ?_)
                obtain ⟨v21, rfl, h⟩ := Qi_ok hq
                replace h := h hI (mokI (hr _ rfl))
                clear hq hr
                exact y_iret 166 Y dX6_applies_166 rfl h
            · replace h := h.2 c
              refine y_aload_n 129 Y dX6_applies_129 rfl ?_
              refine y_iload_n 130 Y dX6_applies_130 rfl ?_
              refine y_iload_n 131 Y dX6_applies_131 rfl ?_
              refine y_iload 132 Y dX6_applies_132 rfl ?_
              refine y_bipush 134 Y dX6_applies_134 rfl ?_
              obtain ⟨o22, h⟩ := h
              refine y_isub 136 Y dX6_applies_136 o22 ?_
              refine y_call 137 Y (as := [mi a1, mi a2, mi (v8 - 100)]) [] dX6_applies_137 rfl rfl rfl rfl rfl h (fun r S23 hq hI hr => ?_)
              obtain ⟨v24, rfl, h⟩ := Qi_ok hq
              replace h := h hI (mokI (hr _ rfl))
              clear hq hr
              exact y_iret 140 Y dX6_applies_140 rfl h
          · replace h := h.2 c
            refine y_iload 119 Y dX6_applies_119 rfl ?_
            exact y_iret 121 Y dX6_applies_121 rfl h
        · replace h := h.2 c
          refine y_bipush 92 Y dX6_applies_92 rfl ?_
          refine y_aload_n 94 Y dX6_applies_94 rfl ?_
          refine y_geta 95 Y 5 dX6_applies_95 rfl rfl ?_
          refine y_iload_n 98 Y dX6_applies_98 rfl ?_
          refine y_iald 99 Y dX6_applies_99 rfl rfl o1 o2 (fun _ => ?_)
          obtain ⟨o25, h⟩ := h
          refine y_iadd 100 Y dX6_applies_100 o25 ?_
          refine y_bipush 101 Y dX6_applies_101 rfl ?_
          obtain ⟨o26, h⟩ := h
          refine y_isub 103 Y dX6_applies_103 o26 ?_
          refine y_goto 104 112 Y dX6_applies_104 rfl rfl ?_
          refine y_istore 112 Y [some mt, some (mi a1), some (mi a2), some (mi (S 7 a2)), some (mi v6), some (mi ((100 + (S5 5 a2)) - 97))] dX6_applies_112 rfl rfl ?_
          refine y_iload 114 Y dX6_applies_114 rfl ?_
          refine y_if 116 122 Y dX6_applies_116 rfl rfl (fun c => ?_) (fun c => ?_)
          · replace h := h.1 c
            refine y_iload 122 Y dX6_applies_122 rfl ?_
            refine y_bipush 124 Y dX6_applies_124 rfl ?_
            refine y_icmp 126 141 Y dX6_applies_126 rfl rfl (fun c => ?_) (fun c => ?_)
            · replace h := h.1 c
              refine y_aload_n 141 Y dX6_applies_141 rfl ?_
              refine y_dup 142 Y dX6_applies_142 rfl ?_
              refine y_getf 143 Y 56 dX6_applies_143 rfl rfl (fun _ => ?_)
              refine y_iconst 146 Y dX6_applies_146 rfl ?_
              obtain ⟨o27, h⟩ := h
              refine y_isub 147 Y dX6_applies_147 o27 ?_
              refine y_putf 148 Y 56 dX6_applies_148 rfl rfl (fun q => absurd q (by decide)) ?_
              refine y_iload_n 151 Y dX6_applies_151 rfl ?_
              refine y_iconst 152 Y dX6_applies_152 rfl ?_
              refine y_icmp 153 167 Y dX6_applies_153 rfl rfl (fun c => ?_) (fun c => ?_)
              · replace h := h.1 c
                refine y_aload_n 167 Y dX6_applies_167 rfl ?_
                refine y_dup 168 Y dX6_applies_168 rfl ?_
                refine y_getf 169 Y 61 dX6_applies_169 rfl rfl (fun _ => ?_)
                refine y_iconst 172 Y dX6_applies_172 rfl ?_
                obtain ⟨o28, h⟩ := h
                refine y_isub 173 Y dX6_applies_173 o28 ?_
                refine y_putf 174 Y 61 dX6_applies_174 rfl rfl (fun q => absurd q (by decide)) ?_
                refine y_aload_n 177 Y dX6_applies_177 rfl ?_
                refine y_iload 178 Y dX6_applies_178 rfl ?_
                refine y_aload_n 180 Y dX6_applies_180 rfl ?_
                refine y_call 181 Y (as := []) [mi ((100 + (S5 5 a2)) - 97), mt] dX6_applies_181 rfl rfl rfl rfl rfl h (fun r S29 hq hI hr => ?_)
                obtain ⟨v30, rfl, h⟩ := Qi_ok hq
                replace h := h hI (mokI (hr _ rfl))
                clear hq hr
                refine y_aload_n 184 Y dX6_applies_184 rfl ?_
                refine y_call 185 Y (as := []) [mi v30, mi ((100 + (S5 5 a2)) - 97), mt] dX6_applies_185 rfl rfl rfl rfl rfl h (fun r S31 hq hI hr => ?_)
                obtain ⟨v32, rfl, h⟩ := Qi_ok hq
                replace h := h hI (mokI (hr _ rfl))
                clear hq hr
                refine y_iconst 188 Y dX6_applies_188 rfl ?_
                obtain ⟨o33, h⟩ := h
                refine y_iadd 189 Y dX6_applies_189 o33 ?_
                refine y_call 190 Y (as := [mi ((100 + (S5 5 a2)) - 97), mi v30, mi (v32 + 1)]) [] dX6_applies_190 rfl rfl rfl rfl rfl h (fun r S34 hq hI hr => ?_)
                obtain ⟨v35, rfl, h⟩ := Qi_ok hq
                replace h := h hI (mokI (hr _ rfl))
                clear hq hr
                exact y_iret 193 Y dX6_applies_193 rfl h
              · replace h := h.2 c
                refine y_aload_n 156 Y dX6_applies_156 rfl ?_
                refine y_iload 157 Y dX6_applies_157 rfl ?_
                refine y_aload_n 159 Y dX6_applies_159 rfl ?_
                refine y_call 160 Y (as := []) [mi ((100 + (S5 5 a2)) - 97), mt] dX6_applies_160 rfl rfl rfl rfl rfl h (fun r S36 hq hI hr => ?_)
                obtain ⟨v37, rfl, h⟩ := Qi_ok hq
                replace h := h hI (mokI (hr _ rfl))
                clear hq hr
                refine y_call 163 Y (as := [mi ((100 + (S5 5 a2)) - 97), mi v37]) [] dX6_applies_163 rfl rfl rfl rfl rfl h (fun r S38 hq hI hr => ?_)
                obtain ⟨v39, rfl, h⟩ := Qi_ok hq
                replace h := h hI (mokI (hr _ rfl))
                clear hq hr
                exact y_iret 166 Y dX6_applies_166 rfl h
            · replace h := h.2 c
              refine y_aload_n 129 Y dX6_applies_129 rfl ?_
              refine y_iload_n 130 Y dX6_applies_130 rfl ?_
              refine y_iload_n 131 Y dX6_applies_131 rfl ?_
              refine y_iload 132 Y dX6_applies_132 rfl ?_
              refine y_bipush 134 Y dX6_applies_134 rfl ?_
              obtain ⟨o40, h⟩ := h
              refine y_isub 136 Y dX6_applies_136 o40 ?_
              refine y_call 137 Y (as := [mi a1, mi a2, mi (((100 + (S5 5 a2)) - 97) - 100)]) [] dX6_applies_137 rfl rfl rfl rfl rfl h (fun r S41 hq hI hr => ?_)
              obtain ⟨v42, rfl, h⟩ := Qi_ok hq
              replace h := h hI (mokI (hr _ rfl))
              clear hq hr
              exact y_iret 140 Y dX6_applies_140 rfl h
          · replace h := h.2 c
            refine y_iload 119 Y dX6_applies_119 rfl ?_
            exact y_iret 121 Y dX6_applies_121 rfl h
      · replace h := h.2 c
        refine y_aload_n 62 Y dX6_applies_62 rfl ?_
        refine y_iload_n 63 Y dX6_applies_63 rfl ?_
        refine y_aload_n 64 Y dX6_applies_64 rfl ?_
        refine y_geta 65 Y 49 dX6_applies_65 rfl rfl ?_
        refine y_iload_n 68 Y dX6_applies_68 rfl ?_
        refine y_iald 69 Y dX6_applies_69 rfl rfl o3 o4 (fun _ => ?_)
        refine y_iload_n 70 Y dX6_applies_70 rfl ?_
        obtain ⟨o43, h⟩ := h
        refine y_isub 71 Y dX6_applies_71 o43 ?_
        refine y_call 72 Y (as := [mi a1, mi ((S 49 a1) - (S 7 a2))]) [] dX6_applies_72 rfl rfl rfl rfl rfl h (fun r S44 hq hI hr => ?_)
        obtain ⟨v45, rfl, h⟩ := Qi_ok hq
        replace h := h hI (mokI (hr _ rfl))
        clear hq hr
        exact y_iret 75 Y dX6_applies_75 rfl h
    · replace h := h.2 c
      refine y_aload_n 17 Y dX6_applies_17 rfl ?_
      refine y_geta 18 Y 49 dX6_applies_18 rfl rfl ?_
      refine y_iload_n 21 Y dX6_applies_21 rfl ?_
      refine y_dup2 22 Y dX6_applies_22 rfl rfl ?_
      refine y_iald 23 Y dX6_applies_23 rfl rfl o3 o4 (fun _ => ?_)
      refine y_iconst 24 Y dX6_applies_24 rfl ?_
      obtain ⟨o46, h⟩ := h
      refine y_iadd 25 Y dX6_applies_25 o46 ?_
      refine y_iast 26 Y dX6_applies_26 rfl rfl o3 o4 ?_
      refine y_aload_n 27 Y dX6_applies_27 rfl ?_
      refine y_aload_n 28 Y dX6_applies_28 rfl ?_
      refine y_iload_n 29 Y dX6_applies_29 rfl ?_
      refine y_aload_n 30 Y dX6_applies_30 rfl ?_
      refine y_geta 31 Y 49 dX6_applies_31 rfl rfl ?_
      refine y_iload_n 34 Y dX6_applies_34 rfl ?_
      refine y_iald 35 Y dX6_applies_35 rfl rfl o3 o4 (fun q => ?_)
      replace h := h q
      refine y_iconst 36 Y dX6_applies_36 rfl ?_
      obtain ⟨o47, h⟩ := h
      refine y_isub 37 Y dX6_applies_37 o47 ?_
      refine y_call 38 Y (as := [mi a2, mi (((mup S 49 a1 ((S 49 a1) + 1)) 49 a1) - 1)]) [mt] dX6_applies_38 rfl rfl rfl rfl rfl h (fun r S48 hq hI hr => ?_)
      obtain ⟨v49, rfl, h⟩ := Qi_ok hq
      replace h := h hI (mokI (hr _ rfl))
      clear hq hr
      refine y_aload_n 41 Y dX6_applies_41 rfl ?_
      refine y_geta 42 Y 50 dX6_applies_42 rfl rfl ?_
      refine y_iload_n 45 Y dX6_applies_45 rfl ?_
      refine y_iald 46 Y dX6_applies_46 rfl rfl o3 o4 (fun _ => ?_)
      refine y_call 47 Y (as := [mi v49, mi (S48 50 a1)]) [] dX6_applies_47 rfl rfl rfl rfl rfl h (fun r S50 hq hI _ => ?_)
      obtain ⟨rfl, h⟩ := Qv_ok hq
      replace h := h hI
      clear hq
      refine y_iconst 50 Y dX6_applies_50 rfl ?_
      exact y_iret 51 Y dX6_applies_51 rfl h
  · intro n pc L st T hi
    exact hi.elim
set_option maxHeartbeats 4000000 in
theorem of_gathers {g : mG} {S : mS} {a1 a2 : Int} {Qp : Option mV → mS → Prop} (I12 : Nat → Int → Int → Int → Int → mS → Prop)
    (hE : mI S → (-2147483648 ≤ a1 ∧ a1 ≤ 2147483647) → (-2147483648 ≤ a2 ∧ a2 ≤ 2147483647) → CX_inOrder g [mt, mi a1] S (Qi fun v2 S1 => mI S1 → (-2147483648 ≤ v2 ∧ v2 ≤ 2147483647) → (∃ n1, I12 n1 a2 v2 1 0 S1)))
    (h12 : ∀ (n : Nat) (l2 l3 l4 l5 : Int) (T : mS), mI T → (-2147483648 ≤ l2 ∧ l2 ≤ 2147483647) → (-2147483648 ≤ l3 ∧ l3 ≤ 2147483647) → (-2147483648 ≤ l4 ∧ l4 ≤ 2147483647) → (-2147483648 ≤ l5 ∧ l5 ≤ 2147483647) → I12 n l2 l3 l4 l5 T → ((l3 ≤ l5) → (l4 = 0 ∨ l4 = 1) ∧ Qp (some (mi l4)) T) ∧ (¬ (l3 ≤ l5) → ((l4 = 0) → (l4 = 0 ∨ l4 = 1) ∧ Qp (some (mi l4)) T) ∧ (¬ (l4 = 0) → (0 ≤ l5) ∧ (l5 < 100) ∧ CX_gatherNode g [mt, mi (T 14 l5), mi l2] T (Qi fun v4 S3 => mI S3 → (-2147483648 ≤ v4 ∧ v4 ≤ 2147483647) → (-2147483648 ≤ ((l5 + 1) : Int) ∧ (l5 + 1) ≤ 2147483647) ∧ (∃ n1, n1 < n ∧ I12 n1 l2 l3 v4 (l5 + 1) S3)))))
    : CX_gathers g [mt, mi a1, mi a2] S Qp := by
  refine cm_y ⟨by decide, rfl⟩ (by simp [mcat]) (by simp) (fun n pc L st S => (pc = 12 ∧ ∃ (l2 : Int) (l3 : Int) (l4 : Int) (l5 : Int), L = [some mt, none, some (mi l2), some (mi l3), some (mi l4), some (mi l5)] ∧ st = [] ∧ I12 n l2 l3 l4 l5 S)) ?_ ?_
  · intro ha hS P Y Wk hIc
    have h := hE hS (mokI (ha (mi a1) (by simp))) (mokI (ha (mi a2) (by simp)))
    clear hE ha h12
    refine y_aload_n 0 Y dX6_gathers_0 rfl ?_
    refine y_iload_n 1 Y dX6_gathers_1 rfl ?_
    refine y_call 2 Y (as := [mi a1]) [] dX6_gathers_2 rfl rfl rfl rfl rfl h (fun r S1 hq hI hr => ?_)
    obtain ⟨v2, rfl, h⟩ := Qi_ok hq
    replace h := h hI (mokI (hr _ rfl))
    clear hq hr
    refine y_istore_n 5 Y [some mt, some (mi a1), some (mi a2), some (mi v2), none, none] dX6_gathers_5 rfl rfl ?_
    refine y_iconst 6 Y dX6_gathers_6 rfl ?_
    refine y_istore 7 Y [some mt, some (mi a1), some (mi a2), some (mi v2), some (mi 1), none] dX6_gathers_7 rfl rfl ?_
    refine y_iconst 9 Y dX6_gathers_9 rfl ?_
    refine y_istore 10 Y [some mt, some (mi a1), some (mi a2), some (mi v2), some (mi 1), some (mi 0)] dX6_gathers_10 rfl rfl ?_
    obtain ⟨n1, h⟩ := h
    exact Wk 12 _ [some mt, none, some (mi a2), some (mi v2), some (mi 1), some (mi 0)] _ _ ⟨rfl, ⟨rfl, ⟨rfl, ⟨rfl, ⟨rfl, trivial⟩⟩⟩⟩⟩ (hIc n1 _ _ _ _ ((⟨rfl, _, _, _, _, rfl, rfl, h⟩)))
  · intro n pc L st T hi hS hL P Y Wk hIc
    clear hE
    rcases hi with ⟨rfl, l2, l3, l4, l5, rfl, rfl, hi⟩
    · have h := h12 n l2 l3 l4 l5 T hS (hL 2 _ rfl) (hL 3 _ rfl) (hL 4 _ rfl) (hL 5 _ rfl) hi
      clear hL hi h12
      refine y_iload 12 Y dX6_gathers_12 rfl ?_
      refine y_iload_n 14 Y dX6_gathers_14 rfl ?_
      refine y_icmp 15 43 Y dX6_gathers_15 rfl rfl (fun c => ?_) (fun c => ?_)
      · replace h := h.1 c
        refine y_iload 43 Y dX6_gathers_43 rfl ?_
        exact y_zret 45 Y dX6_gathers_45 rfl h.1 h.2
      · replace h := h.2 c
        refine y_iload 18 Y dX6_gathers_18 rfl ?_
        refine y_if 20 43 Y dX6_gathers_20 rfl rfl (fun c => ?_) (fun c => ?_)
        · replace h := h.1 c
          refine y_iload 43 Y dX6_gathers_43 rfl ?_
          exact y_zret 45 Y dX6_gathers_45 rfl h.1 h.2
        · replace h := h.2 c
          refine y_aload_n 23 Y dX6_gathers_23 rfl ?_
          refine y_aload_n 24 Y dX6_gathers_24 rfl ?_
          refine y_geta 25 Y 14 dX6_gathers_25 rfl rfl ?_
          refine y_iload 28 Y dX6_gathers_28 rfl ?_
          obtain ⟨o1, h⟩ := h
          obtain ⟨o2, h⟩ := h
          refine y_iald 30 Y dX6_gathers_30 rfl rfl o1 o2 (fun _ => ?_)
          refine y_iload_n 31 Y dX6_gathers_31 rfl ?_
          refine y_call 32 Y (as := [mi (T 14 l5), mi l2]) [] dX6_gathers_32 rfl rfl rfl rfl rfl h (fun r S3 hq hI hr => ?_)
          obtain ⟨v4, rfl, h⟩ := Qi_ok hq
          replace h := h hI (mokI (hr _ rfl))
          clear hq hr
          refine y_istore 35 Y [some mt, none, some (mi l2), some (mi l3), some (mi v4), some (mi l5)] dX6_gathers_35 rfl rfl ?_
          obtain ⟨o5, h⟩ := h
          refine y_iinc 37 Y [some mt, none, some (mi l2), some (mi l3), some (mi v4), some (mi (l5 + 1))] dX6_gathers_37 rfl rfl o5 ?_
          refine y_goto 40 12 Y dX6_gathers_40 rfl rfl ?_
          obtain ⟨n1, hn, h⟩ := h
          exact Wk 12 _ [some mt, none, some (mi l2), some (mi l3), some (mi v4), some (mi (l5 + 1))] _ _ ⟨rfl, ⟨rfl, ⟨rfl, ⟨rfl, ⟨rfl, trivial⟩⟩⟩⟩⟩ (hIc n1 _ _ _ _ hn ((⟨rfl, _, _, _, _, rfl, rfl, h⟩)))

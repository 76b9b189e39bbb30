/-! Contracts out of conditions; printed by gen_vc.py. -/
set_option maxRecDepth 100000
set_option maxHeartbeats 4000000 in
theorem of_addProduct {g : mG} {S : mS} {a1 a2 a3 : Int} {Qp : Option mV → mS → Prop}
    (hE : mI S → (-2147483648 ≤ a1 ∧ a1 ≤ 2147483647) → (-2147483648 ≤ a2 ∧ a2 ≤ 2147483647) → (-2147483648 ≤ a3 ∧ a3 ≤ 2147483647) → CX_loadNumerator g [mt, mi 2, mi a1] S (Qv fun S1 => mI S1 → CX_loadNumerator g [mt, mi 3, mi a2] S1 (Qv fun S2 => mI S2 → CX_times g [mt, mi 4, mi 2, mi 3] S2 (Qv fun S3 => mI S3 → CX_loadDenominator g [mt, mi 2, mi a1] S3 (Qv fun S4 => mI S4 → CX_loadDenominator g [mt, mi 3, mi a2] S4 (Qv fun S5 => mI S5 → CX_times g [mt, mi 5, mi 2, mi 3] S5 (Qv fun S6 => mI S6 → CX_times g [mt, mi 6, mi 8, mi 5] S6 (Qv fun S7 => mI S7 → CX_times g [mt, mi 7, mi 4, mi 9] S7 (Qv fun S8 => mI S8 → CX_times g [mt, mi 10, mi 9, mi 5] S8 (Qv fun S9 => mI S9 → CX_copy g [mt, mi 9, mi 10] S9 (Qv fun S10 => mI S10 → CX_sign_2 g [mt, mi a1] S10 (Qi fun v12 S11 => mI S11 → (-2147483648 ≤ v12 ∧ v12 ≤ 2147483647) → (-2147483648 ≤ ((a3 * v12) : Int) ∧ (a3 * v12) ≤ 2147483647) ∧ CX_sign_2 g [mt, mi a2] S11 (Qi fun v15 S14 => mI S14 → (-2147483648 ≤ v15 ∧ v15 ≤ 2147483647) → (-2147483648 ≤ (((a3 * v12) * v15) : Int) ∧ ((a3 * v12) * v15) ≤ 2147483647) ∧ CX_signed g [mt, mi 6, mi (S10 69 0), mi 7, mi ((a3 * v12) * v15)] S14 (Qi fun v18 S17 => mI S17 → (-2147483648 ≤ v18 ∧ v18 ≤ 2147483647) → CX_copy g [mt, mi 8, mi 6] (mup S17 69 0 v18) (Qv fun S19 => mI S19 → CX_lowest g [mt, mi 8, mi 9] S19 (Qv fun S20 => mI S20 → Qp none S20))))))))))))))))
    : CX_addProduct g [mt, mi a1, mi a2, mi a3] S Qp := by
  refine cm_y ⟨by decide, rfl⟩ (by simp [mcat]) (by simp) (fun _ _ _ _ _ => False) ?_ ?_
  · intro ha hS P Y Wk hIc
    have h := hE hS (mokI (ha (mi a1) (by simp))) (mokI (ha (mi a2) (by simp))) (mokI (ha (mi a3) (by simp)))
    clear hE ha
    refine y_aload_n 0 Y dX6_addProduct_0 rfl ?_
    refine y_iconst 1 Y dX6_addProduct_1 rfl ?_
    refine y_iload_n 2 Y dX6_addProduct_2 rfl ?_
    refine y_call 3 Y (as := [mi 2, mi a1]) [] dX6_addProduct_3 rfl rfl rfl rfl rfl h (fun r S1 hq hI _ => ?_)
    obtain ⟨rfl, h⟩ := Qv_ok hq
    replace h := h hI
    clear hq
    refine y_aload_n 6 Y dX6_addProduct_6 rfl ?_
    refine y_iconst 7 Y dX6_addProduct_7 rfl ?_
    refine y_iload_n 8 Y dX6_addProduct_8 rfl ?_
    refine y_call 9 Y (as := [mi 3, mi a2]) [] dX6_addProduct_9 rfl rfl rfl rfl rfl h (fun r S2 hq hI _ => ?_)
    obtain ⟨rfl, h⟩ := Qv_ok hq
    replace h := h hI
    clear hq
    refine y_aload_n 12 Y dX6_addProduct_12 rfl ?_
    refine y_iconst 13 Y dX6_addProduct_13 rfl ?_
    refine y_iconst 14 Y dX6_addProduct_14 rfl ?_
    refine y_iconst 15 Y dX6_addProduct_15 rfl ?_
    refine y_call 16 Y (as := [mi 4, mi 2, mi 3]) [] dX6_addProduct_16 rfl rfl rfl rfl rfl h (fun r S3 hq hI _ => ?_)
    obtain ⟨rfl, h⟩ := Qv_ok hq
    replace h := h hI
    clear hq
    refine y_aload_n 19 Y dX6_addProduct_19 rfl ?_
    refine y_iconst 20 Y dX6_addProduct_20 rfl ?_
    refine y_iload_n 21 Y dX6_addProduct_21 rfl ?_
    refine y_call 22 Y (as := [mi 2, mi a1]) [] dX6_addProduct_22 rfl rfl rfl rfl rfl h (fun r S4 hq hI _ => ?_)
    obtain ⟨rfl, h⟩ := Qv_ok hq
    replace h := h hI
    clear hq
    refine y_aload_n 25 Y dX6_addProduct_25 rfl ?_
    refine y_iconst 26 Y dX6_addProduct_26 rfl ?_
    refine y_iload_n 27 Y dX6_addProduct_27 rfl ?_
    refine y_call 28 Y (as := [mi 3, mi a2]) [] dX6_addProduct_28 rfl rfl rfl rfl rfl h (fun r S5 hq hI _ => ?_)
    obtain ⟨rfl, h⟩ := Qv_ok hq
    replace h := h hI
    clear hq
    refine y_aload_n 31 Y dX6_addProduct_31 rfl ?_
    refine y_iconst 32 Y dX6_addProduct_32 rfl ?_
    refine y_iconst 33 Y dX6_addProduct_33 rfl ?_
    refine y_iconst 34 Y dX6_addProduct_34 rfl ?_
    refine y_call 35 Y (as := [mi 5, mi 2, mi 3]) [] dX6_addProduct_35 rfl rfl rfl rfl rfl h (fun r S6 hq hI _ => ?_)
    obtain ⟨rfl, h⟩ := Qv_ok hq
    replace h := h hI
    clear hq
    refine y_aload_n 38 Y dX6_addProduct_38 rfl ?_
    refine y_bipush 39 Y dX6_addProduct_39 rfl ?_
    refine y_bipush 41 Y dX6_addProduct_41 rfl ?_
    refine y_iconst 43 Y dX6_addProduct_43 rfl ?_
    refine y_call 44 Y (as := [mi 6, mi 8, mi 5]) [] dX6_addProduct_44 rfl rfl rfl rfl rfl h (fun r S7 hq hI _ => ?_)
    obtain ⟨rfl, h⟩ := Qv_ok hq
    replace h := h hI
    clear hq
    refine y_aload_n 47 Y dX6_addProduct_47 rfl ?_
    refine y_bipush 48 Y dX6_addProduct_48 rfl ?_
    refine y_iconst 50 Y dX6_addProduct_50 rfl ?_
    refine y_bipush 51 Y dX6_addProduct_51 rfl ?_
    refine y_call 53 Y (as := [mi 7, mi 4, mi 9]) [] dX6_addProduct_53 rfl rfl rfl rfl rfl h (fun r S8 hq hI _ => ?_)
    obtain ⟨rfl, h⟩ := Qv_ok hq
    replace h := h hI
    clear hq
    refine y_aload_n 56 Y dX6_addProduct_56 rfl ?_
    refine y_bipush 57 Y dX6_addProduct_57 rfl ?_
    refine y_bipush 59 Y dX6_addProduct_59 rfl ?_
    refine y_iconst 61 Y dX6_addProduct_61 rfl ?_
    refine y_call 62 Y (as := [mi 10, mi 9, mi 5]) [] dX6_addProduct_62 rfl rfl rfl rfl rfl h (fun r S9 hq hI _ => ?_)
    obtain ⟨rfl, h⟩ := Qv_ok hq
    replace h := h hI
    clear hq
    refine y_aload_n 65 Y dX6_addProduct_65 rfl ?_
    refine y_bipush 66 Y dX6_addProduct_66 rfl ?_
    refine y_bipush 68 Y dX6_addProduct_68 rfl ?_
    refine y_call 70 Y (as := [mi 9, mi 10]) [] dX6_addProduct_70 rfl rfl rfl rfl rfl h (fun r S10 hq hI _ => ?_)
    obtain ⟨rfl, h⟩ := Qv_ok hq
    replace h := h hI
    clear hq
    refine y_aload_n 73 Y dX6_addProduct_73 rfl ?_
    refine y_aload_n 74 Y dX6_addProduct_74 rfl ?_
    refine y_bipush 75 Y dX6_addProduct_75 rfl ?_
    refine y_aload_n 77 Y dX6_addProduct_77 rfl ?_
    refine y_getf 78 Y 69 dX6_addProduct_78 rfl rfl (fun _ => ?_)
    refine y_bipush 81 Y dX6_addProduct_81 rfl ?_
    refine y_iload_n 83 Y dX6_addProduct_83 rfl ?_
    refine y_aload_n 84 Y dX6_addProduct_84 rfl ?_
    refine y_iload_n 85 Y dX6_addProduct_85 rfl ?_
    refine y_call 86 Y (as := [mi a1]) [mi a3, mi 7, mi (S10 69 0), mi 6, mt, mt] dX6_addProduct_86 rfl rfl rfl rfl rfl h (fun r S11 hq hI hr => ?_)
    obtain ⟨v12, rfl, h⟩ := Qi_ok hq
    replace h := h hI (mokI (hr _ rfl))
    clear hq hr
    obtain ⟨o13, h⟩ := h
    refine y_imul 89 Y dX6_addProduct_89 o13 ?_
    refine y_aload_n 90 Y dX6_addProduct_90 rfl ?_
    refine y_iload_n 91 Y dX6_addProduct_91 rfl ?_
    refine y_call 92 Y (as := [mi a2]) [mi (a3 * v12), mi 7, mi (S10 69 0), mi 6, mt, mt] dX6_addProduct_92 rfl rfl rfl rfl rfl h (fun r S14 hq hI hr => ?_)
    obtain ⟨v15, rfl, h⟩ := Qi_ok hq
    replace h := h hI (mokI (hr _ rfl))
    clear hq hr
    obtain ⟨o16, h⟩ := h
    refine y_imul 95 Y dX6_addProduct_95 o16 ?_
    refine y_call 96 Y (as := [mi 6, mi (S10 69 0), mi 7, mi ((a3 * v12) * v15)]) [mt] dX6_addProduct_96 rfl rfl rfl rfl rfl h (fun r S17 hq hI hr => ?_)
    obtain ⟨v18, rfl, h⟩ := Qi_ok hq
    replace h := h hI (mokI (hr _ rfl))
    clear hq hr
    refine y_putf 99 Y 69 dX6_addProduct_99 rfl rfl (fun q => absurd q (by decide)) ?_
    refine y_aload_n 102 Y dX6_addProduct_102 rfl ?_
    refine y_bipush 103 Y dX6_addProduct_103 rfl ?_
    refine y_bipush 105 Y dX6_addProduct_105 rfl ?_
    refine y_call 107 Y (as := [mi 8, mi 6]) [] dX6_addProduct_107 rfl rfl rfl rfl rfl h (fun r S19 hq hI _ => ?_)
    obtain ⟨rfl, h⟩ := Qv_ok hq
    replace h := h hI
    clear hq
    refine y_aload_n 110 Y dX6_addProduct_110 rfl ?_
    refine y_bipush 111 Y dX6_addProduct_111 rfl ?_
    refine y_bipush 113 Y dX6_addProduct_113 rfl ?_
    refine y_call 115 Y (as := [mi 8, mi 9]) [] dX6_addProduct_115 rfl rfl rfl rfl rfl h (fun r S20 hq hI _ => ?_)
    obtain ⟨rfl, h⟩ := Qv_ok hq
    replace h := h hI
    clear hq
    exact y_ret 118 Y dX6_addProduct_118 rfl h
  · intro n pc L st T hi
    exact hi.elim
set_option maxHeartbeats 4000000 in
theorem of_derives {g : mG} {S : mS} {a1 a2 : Int} {Qp : Option mV → mS → Prop} (I19 : Nat → Int → Int → Int → Int → mS → Prop)
    (hE : mI S → (-2147483648 ≤ a1 ∧ a1 ≤ 2147483647) → (-2147483648 ≤ a2 ∧ a2 ≤ 2147483647) → CX_areTold g [mt, mi a1] S (Qi fun v2 S1 => mI S1 → (-2147483648 ≤ v2 ∧ v2 ≤ 2147483647) → ((v2 ≠ 0) → CX_inOrder g [mt, mi a1] S1 (Qi fun v4 S3 => mI S3 → (-2147483648 ≤ v4 ∧ v4 ≤ 2147483647) → (∃ n1, I19 n1 a1 a2 v4 0 S3))) ∧ (¬ (v2 ≠ 0) → Qp (some (mi (-1))) S1)))
    (h19 : ∀ (n : Nat) (l1 l2 l3 l4 : Int) (T : mS), mI T → (-2147483648 ≤ l1 ∧ l1 ≤ 2147483647) → (-2147483648 ≤ l2 ∧ l2 ≤ 2147483647) → (-2147483648 ≤ l3 ∧ l3 ≤ 2147483647) → (-2147483648 ≤ l4 ∧ l4 ≤ 2147483647) → I19 n l1 l2 l3 l4 T → ((l3 ≤ l4) → Qp (some (mi (T 73 0))) T) ∧ (¬ (l3 ≤ l4) → (0 ≤ l4) ∧ (l4 < 100) ∧ (-2147483648 ≤ (((T 14 l4) - l1) : Int) ∧ ((T 14 l4) - l1) ≤ 2147483647) ∧ (-2147483648 ≤ ((80 * ((T 14 l4) - l1)) : Int) ∧ (80 * ((T 14 l4) - l1)) ≤ 2147483647) ∧ (-2147483648 ≤ ((13740 + (80 * ((T 14 l4) - l1))) : Int) ∧ (13740 + (80 * ((T 14 l4) - l1))) ≤ 2147483647) ∧ (0 ≤ (T 14 l4)) ∧ ((T 14 l4) < 20300) ∧ (((T 4 (T 14 l4)) = 3) → (((T 7 (T 14 l4)) ≠ 1) → CX_meaningAt g [mt, mi (T 14 l4)] (mup (mup T 74 0 (13740 + (80 * ((T 14 l4) - l1)))) 75 0 0) (Qi fun v9 S8 => mI S8 → (-2147483648 ≤ v9 ∧ v9 ≤ 2147483647) → CX_deriveTwo g [mt, mi (T 14 l4), mi l1, mi v9] S8 (Qv fun S10 => mI S10 → (0 ≤ ((T 14 l4) - l1)) ∧ (((T 14 l4) - l1) < 80) ∧ (((S10 75 0) ≤ 0) → (-2147483648 ≤ ((l4 + 1) : Int) ∧ (l4 + 1) ≤ 2147483647) ∧ (∃ n1, n1 < n ∧ I19 n1 l1 l2 l3 (l4 + 1) (mup S10 73 ((T 14 l4) - l1) (S10 75 0)))) ∧ (¬ ((S10 75 0) ≤ 0) → CX_span g [mt, mi (S10 74 0), mi (S10 75 0)] (mup S10 73 ((T 14 l4) - l1) (S10 75 0)) (Qv fun S14 => mI S14 → (-2147483648 ≤ ((l4 + 1) : Int) ∧ (l4 + 1) ≤ 2147483647) ∧ (∃ n1, n1 < n ∧ I19 n1 l1 l2 l3 (l4 + 1) S14)))))) ∧ (¬ ((T 7 (T 14 l4)) ≠ 1) → CX_add g [mt, mi 3, mi (T 5 (T 14 l4)), mi (T 6 (T 14 l4)), mi 1] (mup (mup T 74 0 (13740 + (80 * ((T 14 l4) - l1)))) 75 0 0) (Qv fun S16 => mI S16 → (-2147483648 ≤ (((T 14 l4) + 1) : Int) ∧ ((T 14 l4) + 1) ≤ 2147483647) ∧ CX_addDerived g [mt, mi ((T 14 l4) + 1), mi l1] S16 (Qv fun S18 => mI S18 → (0 ≤ ((T 14 l4) - l1)) ∧ (((T 14 l4) - l1) < 80) ∧ (((S18 75 0) ≤ 0) → (-2147483648 ≤ ((l4 + 1) : Int) ∧ (l4 + 1) ≤ 2147483647) ∧ (∃ n1, n1 < n ∧ I19 n1 l1 l2 l3 (l4 + 1) (mup S18 73 ((T 14 l4) - l1) (S18 75 0)))) ∧ (¬ ((S18 75 0) ≤ 0) → CX_span g [mt, mi (S18 74 0), mi (S18 75 0)] (mup S18 73 ((T 14 l4) - l1) (S18 75 0)) (Qv fun S22 => mI S22 → (-2147483648 ≤ ((l4 + 1) : Int) ∧ (l4 + 1) ≤ 2147483647) ∧ (∃ n1, n1 < n ∧ I19 n1 l1 l2 l3 (l4 + 1) S22))))))) ∧ (¬ ((T 4 (T 14 l4)) = 3) → (((T 4 (T 14 l4)) ≠ 1) → CX_add g [mt, mi 0, mi 0, mi (-1), mi 0] (mup (mup T 74 0 (13740 + (80 * ((T 14 l4) - l1)))) 75 0 0) (Qv fun S24 => mI S24 → (0 ≤ ((T 14 l4) - l1)) ∧ (((T 14 l4) - l1) < 80) ∧ (((S24 75 0) ≤ 0) → (-2147483648 ≤ ((l4 + 1) : Int) ∧ (l4 + 1) ≤ 2147483647) ∧ (∃ n1, n1 < n ∧ I19 n1 l1 l2 l3 (l4 + 1) (mup S24 73 ((T 14 l4) - l1) (S24 75 0)))) ∧ (¬ ((S24 75 0) ≤ 0) → CX_span g [mt, mi (S24 74 0), mi (S24 75 0)] (mup S24 73 ((T 14 l4) - l1) (S24 75 0)) (Qv fun S28 => mI S28 → (-2147483648 ≤ ((l4 + 1) : Int) ∧ (l4 + 1) ≤ 2147483647) ∧ (∃ n1, n1 < n ∧ I19 n1 l1 l2 l3 (l4 + 1) S28))))) ∧ (¬ ((T 4 (T 14 l4)) ≠ 1) → (((T 5 (T 14 l4)) ≠ l2) → CX_add g [mt, mi 0, mi 0, mi (-1), mi 0] (mup (mup T 74 0 (13740 + (80 * ((T 14 l4) - l1)))) 75 0 0) (Qv fun S30 => mI S30 → (0 ≤ ((T 14 l4) - l1)) ∧ (((T 14 l4) - l1) < 80) ∧ (((S30 75 0) ≤ 0) → (-2147483648 ≤ ((l4 + 1) : Int) ∧ (l4 + 1) ≤ 2147483647) ∧ (∃ n1, n1 < n ∧ I19 n1 l1 l2 l3 (l4 + 1) (mup S30 73 ((T 14 l4) - l1) (S30 75 0)))) ∧ (¬ ((S30 75 0) ≤ 0) → CX_span g [mt, mi (S30 74 0), mi (S30 75 0)] (mup S30 73 ((T 14 l4) - l1) (S30 75 0)) (Qv fun S34 => mI S34 → (-2147483648 ≤ ((l4 + 1) : Int) ∧ (l4 + 1) ≤ 2147483647) ∧ (∃ n1, n1 < n ∧ I19 n1 l1 l2 l3 (l4 + 1) S34))))) ∧ (¬ ((T 5 (T 14 l4)) ≠ l2) → CX_add g [mt, mi 0, mi 1, mi (-1), mi 0] (mup (mup T 74 0 (13740 + (80 * ((T 14 l4) - l1)))) 75 0 0) (Qv fun S36 => mI S36 → (0 ≤ ((T 14 l4) - l1)) ∧ (((T 14 l4) - l1) < 80) ∧ (((S36 75 0) ≤ 0) → (-2147483648 ≤ ((l4 + 1) : Int) ∧ (l4 + 1) ≤ 2147483647) ∧ (∃ n1, n1 < n ∧ I19 n1 l1 l2 l3 (l4 + 1) (mup S36 73 ((T 14 l4) - l1) (S36 75 0)))) ∧ (¬ ((S36 75 0) ≤ 0) → CX_span g [mt, mi (S36 74 0), mi (S36 75 0)] (mup S36 73 ((T 14 l4) - l1) (S36 75 0)) (Qv fun S40 => mI S40 → (-2147483648 ≤ ((l4 + 1) : Int) ∧ (l4 + 1) ≤ 2147483647) ∧ (∃ n1, n1 < n ∧ I19 n1 l1 l2 l3 (l4 + 1) S40)))))))))
    : CX_derives g [mt, mi a1, mi a2] S Qp := by
  refine cm_y ⟨by decide, rfl⟩ (by simp [mcat]) (by simp) (fun n pc L st S => (pc = 19 ∧ ∃ (l1 : Int) (l2 : Int) (l3 : Int) (l4 : Int), L = [some mt, some (mi l1), some (mi l2), some (mi l3), some (mi l4), none] ∧ st = [] ∧ I19 n l1 l2 l3 l4 S)) ?_ ?_
  · intro ha hS P Y Wk hIc
    have h := hE hS (mokI (ha (mi a1) (by simp))) (mokI (ha (mi a2) (by simp)))
    clear hE ha h19
    refine y_aload_n 0 Y dX6_derives_0 rfl ?_
    refine y_iload_n 1 Y dX6_derives_1 rfl ?_
    refine y_call 2 Y (as := [mi a1]) [] dX6_derives_2 rfl rfl rfl rfl rfl h (fun r S1 hq hI hr => ?_)
    obtain ⟨v2, rfl, h⟩ := Qi_ok hq
    replace h := h hI (mokI (hr _ rfl))
    clear hq hr
    refine y_if 5 10 Y dX6_derives_5 rfl rfl (fun c => ?_) (fun c => ?_)
    · replace h := h.1 c
      refine y_aload_n 10 Y dX6_derives_10 rfl ?_
      refine y_iload_n 11 Y dX6_derives_11 rfl ?_
      refine y_call 12 Y (as := [mi a1]) [] dX6_derives_12 rfl rfl rfl rfl rfl h (fun r S3 hq hI hr => ?_)
      obtain ⟨v4, rfl, h⟩ := Qi_ok hq
      replace h := h hI (mokI (hr _ rfl))
      clear hq hr
      refine y_istore_n 15 Y [some mt, some (mi a1), some (mi a2), some (mi v4), none, none] dX6_derives_15 rfl rfl ?_
      refine y_iconst 16 Y dX6_derives_16 rfl ?_
      refine y_istore 17 Y [some mt, some (mi a1), some (mi a2), some (mi v4), some (mi 0), none] dX6_derives_17 rfl rfl ?_
      obtain ⟨n1, h⟩ := h
      exact Wk 19 _ [some mt, some (mi a1), some (mi a2), some (mi v4), some (mi 0), none] _ _ ⟨rfl, ⟨rfl, ⟨rfl, ⟨rfl, ⟨rfl, trivial⟩⟩⟩⟩⟩ (hIc n1 _ _ _ _ ((⟨rfl, _, _, _, _, rfl, rfl, h⟩)))
    · replace h := h.2 c
      refine y_iconst 8 Y dX6_derives_8 rfl ?_
      exact y_iret 9 Y dX6_derives_9 rfl h
  · intro n pc L st T hi hS hL P Y Wk hIc
    clear hE
    rcases hi with ⟨rfl, l1, l2, l3, l4, rfl, rfl, hi⟩
    · have h := h19 n l1 l2 l3 l4 T hS (hL 1 _ rfl) (hL 2 _ rfl) (hL 3 _ rfl) (hL 4 _ rfl) hi
      clear hL hi h19
      refine y_iload 19 Y dX6_derives_19 rfl ?_
      refine y_iload_n 21 Y dX6_derives_21 rfl ?_
      refine y_icmp 22 196 Y dX6_derives_22 rfl rfl (fun c => ?_) (fun c => ?_)
      · replace h := h.1 c
        refine y_aload_n 196 Y dX6_derives_196 rfl ?_
        refine y_geta 197 Y 73 dX6_derives_197 rfl rfl ?_
        refine y_iconst 200 Y dX6_derives_200 rfl ?_
        refine y_iald 201 Y dX6_derives_201 rfl rfl (by decide) (by decide) (fun _ => ?_)
        exact y_iret 202 Y dX6_derives_202 rfl h
      · replace h := h.2 c
        refine y_aload_n 25 Y dX6_derives_25 rfl ?_
        refine y_geta 26 Y 14 dX6_derives_26 rfl rfl ?_
        refine y_iload 29 Y dX6_derives_29 rfl ?_
        obtain ⟨o1, h⟩ := h
        obtain ⟨o2, h⟩ := h
        refine y_iald 31 Y dX6_derives_31 rfl rfl o1 o2 (fun _ => ?_)
        refine y_istore 32 Y [some mt, some (mi l1), some (mi l2), some (mi l3), some (mi l4), some (mi (T 14 l4))] dX6_derives_32 rfl rfl ?_
        refine y_aload_n 34 Y dX6_derives_34 rfl ?_
        refine y_sipush 35 Y dX6_derives_35 rfl ?_
        refine y_bipush 38 Y dX6_derives_38 rfl ?_
        refine y_iload 40 Y dX6_derives_40 rfl ?_
        refine y_iload_n 42 Y dX6_derives_42 rfl ?_
        obtain ⟨o3, h⟩ := h
        refine y_isub 43 Y dX6_derives_43 o3 ?_
        obtain ⟨o4, h⟩ := h
        refine y_imul 44 Y dX6_derives_44 o4 ?_
        obtain ⟨o5, h⟩ := h
        refine y_iadd 45 Y dX6_derives_45 o5 ?_
        refine y_putf 46 Y 74 dX6_derives_46 rfl rfl (fun q => absurd q (by decide)) ?_
        refine y_aload_n 49 Y dX6_derives_49 rfl ?_
        refine y_iconst 50 Y dX6_derives_50 rfl ?_
        refine y_putf 51 Y 75 dX6_derives_51 rfl rfl (fun q => absurd q (by decide)) ?_
        refine y_aload_n 54 Y dX6_derives_54 rfl ?_
        refine y_geta 55 Y 4 dX6_derives_55 rfl rfl ?_
        refine y_iload 58 Y dX6_derives_58 rfl ?_
        obtain ⟨o6, h⟩ := h
        obtain ⟨o7, h⟩ := h
        refine y_iald 60 Y dX6_derives_60 rfl rfl o6 o7 (fun _ => ?_)
        refine y_iconst 61 Y dX6_derives_61 rfl ?_
        refine y_icmp 62 102 Y dX6_derives_62 rfl rfl (fun c => ?_) (fun c => ?_)
        · replace h := h.1 c
          refine y_aload_n 102 Y dX6_derives_102 rfl ?_
          refine y_geta 103 Y 7 dX6_derives_103 rfl rfl ?_
          refine y_iload 106 Y dX6_derives_106 rfl ?_
          refine y_iald 108 Y dX6_derives_108 rfl rfl o6 o7 (fun _ => ?_)
          refine y_iconst 109 Y dX6_derives_109 rfl ?_
          refine y_icmp 110 145 Y dX6_derives_110 rfl rfl (fun c => ?_) (fun c => ?_)
          · replace h := h.1 c
            refine y_aload_n 145 Y dX6_derives_145 rfl ?_
            refine y_iload 146 Y dX6_derives_146 rfl ?_
            refine y_iload_n 148 Y dX6_derives_148 rfl ?_
            refine y_aload_n 149 Y dX6_derives_149 rfl ?_
            refine y_iload 150 Y dX6_derives_150 rfl ?_
            refine y_call 152 Y (as := [mi (T 14 l4)]) [mi l1, mi (T 14 l4), mt] dX6_derives_152 rfl rfl rfl rfl rfl h (fun r S8 hq hI hr => ?_)
            obtain ⟨v9, rfl, h⟩ := Qi_ok hq
            replace h := h hI (mokI (hr _ rfl))
            clear hq hr
            refine y_call 155 Y (as := [mi (T 14 l4), mi l1, mi v9]) [] dX6_derives_155 rfl rfl rfl rfl rfl h (fun r S10 hq hI _ => ?_)
            obtain ⟨rfl, h⟩ := Qv_ok hq
            replace h := h hI
            clear hq
            refine y_aload_n 158 Y dX6_derives_158 rfl ?_
            refine y_geta 159 Y 73 dX6_derives_159 rfl rfl ?_
            refine y_iload 162 Y dX6_derives_162 rfl ?_
            refine y_iload_n 164 Y dX6_derives_164 rfl ?_
            refine y_isub 165 Y dX6_derives_165 o3 ?_
            refine y_aload_n 166 Y dX6_derives_166 rfl ?_
            refine y_getf 167 Y 75 dX6_derives_167 rfl rfl (fun _ => ?_)
            obtain ⟨o11, h⟩ := h
            obtain ⟨o12, h⟩ := h
            refine y_iast 170 Y dX6_derives_170 rfl rfl o11 o12 ?_
            refine y_aload_n 171 Y dX6_derives_171 rfl ?_
            refine y_getf 172 Y 75 dX6_derives_172 rfl rfl (fun _ => ?_)
            refine y_if 175 190 Y dX6_derives_175 rfl rfl (fun c => ?_) (fun c => ?_)
            · replace h := h.1 c
              obtain ⟨o13, h⟩ := h
              refine y_iinc 190 Y [some mt, some (mi l1), some (mi l2), some (mi l3), some (mi (l4 + 1)), some (mi (T 14 l4))] dX6_derives_190 rfl rfl o13 ?_
              refine y_goto 193 19 Y dX6_derives_193 rfl rfl ?_
              obtain ⟨n1, hn, h⟩ := h
              exact Wk 19 _ [some mt, some (mi l1), some (mi l2), some (mi l3), some (mi (l4 + 1)), none] _ _ ⟨rfl, ⟨rfl, ⟨rfl, ⟨rfl, ⟨rfl, trivial⟩⟩⟩⟩⟩ (hIc n1 _ _ _ _ hn ((⟨rfl, _, _, _, _, rfl, rfl, h⟩)))
            · replace h := h.2 c
              refine y_aload_n 178 Y dX6_derives_178 rfl ?_
              refine y_aload_n 179 Y dX6_derives_179 rfl ?_
              refine y_getf 180 Y 74 dX6_derives_180 rfl rfl (fun _ => ?_)
              refine y_aload_n 183 Y dX6_derives_183 rfl ?_
              refine y_getf 184 Y 75 dX6_derives_184 rfl rfl (fun _ => ?_)
              refine y_call 187 Y (as := [mi (S10 74 0), mi (S10 75 0)]) [] dX6_derives_187 rfl rfl rfl rfl rfl h (fun r S14 hq hI _ => ?_)
              obtain ⟨rfl, h⟩ := Qv_ok hq
              replace h := h hI
              clear hq
              obtain ⟨o15, h⟩ := h
              refine y_iinc 190 Y [some mt, some (mi l1), some (mi l2), some (mi l3), some (mi (l4 + 1)), some (mi (T 14 l4))] dX6_derives_190 rfl rfl o15 ?_
              refine y_goto 193 19 Y dX6_derives_193 rfl rfl ?_
              obtain ⟨n1, hn, h⟩ := h
              exact Wk 19 _ [some mt, some (mi l1), some (mi l2), some (mi l3), some (mi (l4 + 1)), none] _ _ ⟨rfl, ⟨rfl, ⟨rfl, ⟨rfl, ⟨rfl, trivial⟩⟩⟩⟩⟩ (hIc n1 _ _ _ _ hn ((⟨rfl, _, _, _, _, rfl, rfl, h⟩)))
          · replace h := h.2 c
            refine y_aload_n 113 Y dX6_derives_113 rfl ?_
            refine y_iconst 114 Y dX6_derives_114 rfl ?_
            refine y_aload_n 115 Y dX6_derives_115 rfl ?_
            refine y_geta 116 Y 5 dX6_derives_116 rfl rfl ?_
            refine y_iload 119 Y dX6_derives_119 rfl ?_
            refine y_iald 121 Y dX6_derives_121 rfl rfl o6 o7 (fun _ => ?_)
            refine y_aload_n 122 Y dX6_derives_122 rfl ?_
            refine y_geta 123 Y 6 dX6_derives_123 rfl rfl ?_
            refine y_iload 126 Y dX6_derives_126 rfl ?_
            refine y_iald 128 Y dX6_derives_128 rfl rfl o6 o7 (fun _ => ?_)
            refine y_iconst 129 Y dX6_derives_129 rfl ?_
            refine y_call 130 Y (as := [mi 3, mi (T 5 (T 14 l4)), mi (T 6 (T 14 l4)), mi 1]) [] dX6_derives_130 rfl rfl rfl rfl rfl h (fun r S16 hq hI _ => ?_)
            obtain ⟨rfl, h⟩ := Qv_ok hq
            replace h := h hI
            clear hq
            refine y_aload_n 133 Y dX6_derives_133 rfl ?_
            refine y_iload 134 Y dX6_derives_134 rfl ?_
            refine y_iconst 136 Y dX6_derives_136 rfl ?_
            obtain ⟨o17, h⟩ := h
            refine y_iadd 137 Y dX6_derives_137 o17 ?_
            refine y_iload_n 138 Y dX6_derives_138 rfl ?_
            refine y_call 139 Y (as := [mi ((T 14 l4) + 1), mi l1]) [] dX6_derives_139 rfl rfl rfl rfl rfl h (fun r S18 hq hI _ => ?_)
            obtain ⟨rfl, h⟩ := Qv_ok hq
            replace h := h hI
            clear hq
            refine y_goto 142 158 Y dX6_derives_142 rfl rfl ?_
            refine y_aload_n 158 Y dX6_derives_158 rfl ?_
            refine y_geta 159 Y 73 dX6_derives_159 rfl rfl ?_
            refine y_iload 162 Y dX6_derives_162 rfl ?_
            refine y_iload_n 164 Y dX6_derives_164 rfl ?_
            refine y_isub 165 Y dX6_derives_165 o3 ?_
            refine y_aload_n 166 Y dX6_derives_166 rfl ?_
            refine y_getf 167 Y 75 dX6_derives_167 rfl rfl (fun _ => ?_)
            obtain ⟨o19, h⟩ := h
            obtain ⟨o20, h⟩ := h
            refine y_iast 170 Y dX6_derives_170 rfl rfl o19 o20 ?_
            refine y_aload_n 171 Y dX6_derives_171 rfl ?_
            refine y_getf 172 Y 75 dX6_derives_172 rfl rfl (fun _ => ?_)
            refine y_if 175 190 Y dX6_derives_175 rfl rfl (fun c => ?_) (fun c => ?_)
            · replace h := h.1 c
              obtain ⟨o21, h⟩ := h
              refine y_iinc 190 Y [some mt, some (mi l1), some (mi l2), some (mi l3), some (mi (l4 + 1)), some (mi (T 14 l4))] dX6_derives_190 rfl rfl o21 ?_
              refine y_goto 193 19 Y dX6_derives_193 rfl rfl ?_
              obtain ⟨n1, hn, h⟩ := h
              exact Wk 19 _ [some mt, some (mi l1), some (mi l2), some (mi l3), some (mi (l4 + 1)), none] _ _ ⟨rfl, ⟨rfl, ⟨rfl, ⟨rfl, ⟨rfl, trivial⟩⟩⟩⟩⟩ (hIc n1 _ _ _ _ hn ((⟨rfl, _, _, _, _, rfl, rfl, h⟩)))
            · replace h := h.2 c
              refine y_aload_n 178 Y dX6_derives_178 rfl ?_
              refine y_aload_n 179 Y dX6_derives_179 rfl ?_
              refine y_getf 180 Y 74 dX6_derives_180 rfl rfl (fun _ => ?_)
              refine y_aload_n 183 Y dX6_derives_183 rfl ?_
              refine y_getf 184 Y 75 dX6_derives_184 rfl rfl (fun _ => ?_)
              refine y_call 187 Y (as := [mi (S18 74 0), mi (S18 75 0)]) [] dX6_derives_187 rfl rfl rfl rfl rfl h (fun r S22 hq hI _ => ?_)
              obtain ⟨rfl, h⟩ := Qv_ok hq
              replace h := h hI
              clear hq
              obtain ⟨o23, h⟩ := h
              refine y_iinc 190 Y [some mt, some (mi l1), some (mi l2), some (mi l3), some (mi (l4 + 1)), some (mi (T 14 l4))] dX6_derives_190 rfl rfl o23 ?_
              refine y_goto 193 19 Y dX6_derives_193 rfl rfl ?_
              obtain ⟨n1, hn, h⟩ := h
              exact Wk 19 _ [some mt, some (mi l1), some (mi l2), some (mi l3), some (mi (l4 + 1)), none] _ _ ⟨rfl, ⟨rfl, ⟨rfl, ⟨rfl, ⟨rfl, trivial⟩⟩⟩⟩⟩ (hIc n1 _ _ _ _ hn ((⟨rfl, _, _, _, _, rfl, rfl, h⟩)))
        · replace h := h.2 c
          refine y_aload_n 65 Y dX6_derives_65 rfl ?_
          refine y_iconst 66 Y dX6_derives_66 rfl ?_
          refine y_aload_n 67 Y dX6_derives_67 rfl ?_
          refine y_geta 68 Y 4 dX6_derives_68 rfl rfl ?_
          refine y_iload 71 Y dX6_derives_71 rfl ?_
          refine y_iald 73 Y dX6_derives_73 rfl rfl o6 o7 (fun _ => ?_)
          refine y_iconst 74 Y dX6_derives_74 rfl ?_
          refine y_icmp 75 93 Y dX6_derives_75 rfl rfl (fun c => ?_) (fun c => ?_)
          · replace h := h.1 c
            refine y_iconst 93 Y dX6_derives_93 rfl ?_
            refine y_iconst 94 Y dX6_derives_94 rfl ?_
            refine y_iconst 95 Y dX6_derives_95 rfl ?_
            refine y_call 96 Y (as := [mi 0, mi 0, mi (-1), mi 0]) [] dX6_derives_96 rfl rfl rfl rfl rfl h (fun r S24 hq hI _ => ?_)
            obtain ⟨rfl, h⟩ := Qv_ok hq
            replace h := h hI
            clear hq
            refine y_goto 99 158 Y dX6_derives_99 rfl rfl ?_
            refine y_aload_n 158 Y dX6_derives_158 rfl ?_
            refine y_geta 159 Y 73 dX6_derives_159 rfl rfl ?_
            refine y_iload 162 Y dX6_derives_162 rfl ?_
            refine y_iload_n 164 Y dX6_derives_164 rfl ?_
            refine y_isub 165 Y dX6_derives_165 o3 ?_
            refine y_aload_n 166 Y dX6_derives_166 rfl ?_
            refine y_getf 167 Y 75 dX6_derives_167 rfl rfl (fun _ => ?_)
            obtain ⟨o25, h⟩ := h
            obtain ⟨o26, h⟩ := h
            refine y_iast 170 Y dX6_derives_170 rfl rfl o25 o26 ?_
            refine y_aload_n 171 Y dX6_derives_171 rfl ?_
            refine y_getf 172 Y 75 dX6_derives_172 rfl rfl (fun _ => ?_)
            refine y_if 175 190 Y dX6_derives_175 rfl rfl (fun c => ?_) (fun c => ?_)
            · replace h := h.1 c
              obtain ⟨o27, h⟩ := h
              refine y_iinc 190 Y [some mt, some (mi l1), some (mi l2), some (mi l3), some (mi (l4 + 1)), some (mi (T 14 l4))] dX6_derives_190 rfl rfl o27 ?_
              refine y_goto 193 19 Y dX6_derives_193 rfl rfl ?_
              obtain ⟨n1, hn, h⟩ := h
              exact Wk 19 _ [some mt, some (mi l1), some (mi l2), some (mi l3), some (mi (l4 + 1)), none] _ _ ⟨rfl, ⟨rfl, ⟨rfl, ⟨rfl, ⟨rfl, trivial⟩⟩⟩⟩⟩ (hIc n1 _ _ _ _ hn ((⟨rfl, _, _, _, _, rfl, rfl, h⟩)))
            · replace h := h.2 c
              refine y_aload_n 178 Y dX6_derives_178 rfl ?_
              refine y_aload_n 179 Y dX6_derives_179 rfl ?_
              refine y_getf 180 Y 74 dX6_derives_180 rfl rfl (fun _ => ?_)
              refine y_aload_n 183 Y dX6_derives_183 rfl ?_
              refine y_getf 184 Y 75 dX6_derives_184 rfl rfl (fun _ => ?_)
              refine y_call 187 Y (as := [mi (S24 74 0), mi (S24 75 0)]) [] dX6_derives_187 rfl rfl rfl rfl rfl h (fun r S28 hq hI _ => ?_)
              obtain ⟨rfl, h⟩ := Qv_ok hq
              replace h := h hI
              clear hq
              obtain ⟨o29, h⟩ := h
              refine y_iinc 190 Y [some mt, some (mi l1), some (mi l2), some (mi l3), some (mi (l4 + 1)), some (mi (T 14 l4))] dX6_derives_190 rfl rfl o29 ?_
              refine y_goto 193 19 Y dX6_derives_193 rfl rfl ?_
              obtain ⟨n1, hn, h⟩ := h
              exact Wk 19 _ [some mt, some (mi l1), some (mi l2), some (mi l3), some (mi (l4 + 1)), none] _ _ ⟨rfl, ⟨rfl, ⟨rfl, ⟨rfl, ⟨rfl, trivial⟩⟩⟩⟩⟩ (hIc n1 _ _ _ _ hn ((⟨rfl, _, _, _, _, rfl, rfl, h⟩)))
          · replace h := h.2 c
            refine y_aload_n 78 Y dX6_derives_78 rfl ?_
            refine y_geta 79 Y 5 dX6_derives_79 rfl rfl ?_
            refine y_iload 82 Y dX6_derives_82 rfl ?_
            refine y_iald 84 Y dX6_derives_84 rfl rfl o6 o7 (fun _ => ?_)
            refine y_iload_n 85 Y dX6_derives_85 rfl ?_
            refine y_icmp 86 93 Y dX6_derives_86 rfl rfl (fun c => ?_) (fun c => ?_)
            · replace h := h.1 c
              refine y_iconst 93 Y dX6_derives_93 rfl ?_
              refine y_iconst 94 Y dX6_derives_94 rfl ?_
              refine y_iconst 95 Y dX6_derives_95 rfl ?_
              refine y_call 96 Y (as := [mi 0, mi 0, mi (-1), mi 0]) [] dX6_derives_96 rfl rfl rfl rfl rfl h (fun r S30 hq hI _ => ?_)
              obtain ⟨rfl, h⟩ := Qv_ok hq
              replace h := h hI
              clear hq
              refine y_goto 99 158 Y dX6_derives_99 rfl rfl ?_
              refine y_aload_n 158 Y dX6_derives_158 rfl ?_
              refine y_geta 159 Y 73 dX6_derives_159 rfl rfl ?_
              refine y_iload 162 Y dX6_derives_162 rfl ?_
              refine y_iload_n 164 Y dX6_derives_164 rfl ?_
              refine y_isub 165 Y dX6_derives_165 o3 ?_
              refine y_aload_n 166 Y dX6_derives_166 rfl ?_
              refine y_getf 167 Y 75 dX6_derives_167 rfl rfl (fun _ => ?_)
              obtain ⟨o31, h⟩ := h
              obtain ⟨o32, h⟩ := h
              refine y_iast 170 Y dX6_derives_170 rfl rfl o31 o32 ?_
              refine y_aload_n 171 Y dX6_derives_171 rfl ?_
              refine y_getf 172 Y 75 dX6_derives_172 rfl rfl (fun _ => ?_)
              refine y_if 175 190 Y dX6_derives_175 rfl rfl (fun c => ?_) (fun c => ?_)
              · replace h := h.1 c
                obtain ⟨o33, h⟩ := h
                refine y_iinc 190 Y [some mt, some (mi l1), some (mi l2), some (mi l3), some (mi (l4 + 1)), some (mi (T 14 l4))] dX6_derives_190 rfl rfl o33 ?_
                refine y_goto 193 19 Y dX6_derives_193 rfl rfl ?_
                obtain ⟨n1, hn, h⟩ := h
                exact Wk 19 _ [some mt, some (mi l1), some (mi l2), some (mi l3), some (mi (l4 + 1)), none] _ _ ⟨rfl, ⟨rfl, ⟨rfl, ⟨rfl, ⟨rfl, trivial⟩⟩⟩⟩⟩ (hIc n1 _ _ _ _ hn ((⟨rfl, _, _, _, _, rfl, rfl, h⟩)))
              · replace h := h.2 c
                refine y_aload_n 178 Y dX6_derives_178 rfl ?_
                refine y_aload_n 179 Y dX6_derives_179 rfl ?_
                refine y_getf 180 Y 74 dX6_derives_180 rfl rfl (fun _ => ?_)
                refine y_aload_n 183 Y dX6_derives_183 rfl ?_
                refine y_getf 184 Y 75 dX6_derives_184 rfl rfl (fun _ => ?_)
                refine y_call 187 Y (as := [mi (S30 74 0), mi (S30 75 0)]) [] dX6_derives_187 rfl rfl rfl rfl rfl h (fun r S34 hq hI _ => ?_)
                obtain ⟨rfl, h⟩ := Qv_ok hq
                replace h := h hI
                clear hq
                obtain ⟨o35, h⟩ := h
                refine y_iinc 190 Y [some mt, some (mi l1), some (mi l2), some (mi l3), some (mi (l4 + 1)), some (mi (T 14 l4))] dX6_derives_190 rfl rfl o35 ?_
                refine y_goto 193 19 Y dX6_derives_193 rfl rfl ?_
                obtain ⟨n1, hn, h⟩ := h
                exact Wk 19 _ [some mt, some (mi l1), some (mi l2), some (mi l3), some (mi (l4 + 1)), none] _ _ ⟨rfl, ⟨rfl, ⟨rfl, ⟨rfl, ⟨rfl, trivial⟩⟩⟩⟩⟩ (hIc n1 _ _ _ _ hn ((⟨rfl, _, _, _, _, rfl, rfl, h⟩)))
            · replace h := h.2 c
              refine y_iconst 89 Y dX6_derives_89 rfl ?_
              refine y_goto 90 94 Y dX6_derives_90 rfl rfl ?_
              refine y_iconst 94 Y dX6_derives_94 rfl ?_
              refine y_iconst 95 Y dX6_derives_95 rfl ?_
              refine y_call 96 Y (as := [mi 0, mi 1, mi (-1), mi 0]) [] dX6_derives_96 rfl rfl rfl rfl rfl h (fun r S36 hq hI _ => ?_)
              obtain ⟨rfl, h⟩ := Qv_ok hq
              replace h := h hI
              clear hq
              refine y_goto 99 158 Y dX6_derives_99 rfl rfl ?_
              refine y_aload_n 158 Y dX6_derives_158 rfl ?_
              refine y_geta 159 Y 73 dX6_derives_159 rfl rfl ?_
              refine y_iload 162 Y dX6_derives_162 rfl ?_
              refine y_iload_n 164 Y dX6_derives_164 rfl ?_
              refine y_isub 165 Y dX6_derives_165 o3 ?_
              refine y_aload_n 166 Y dX6_derives_166 rfl ?_
              refine y_getf 167 Y 75 dX6_derives_167 rfl rfl (fun _ => ?_)
              obtain ⟨o37, h⟩ := h
              obtain ⟨o38, h⟩ := h
              refine y_iast 170 Y dX6_derives_170 rfl rfl o37 o38 ?_
              refine y_aload_n 171 Y dX6_derives_171 rfl ?_
              refine y_getf 172 Y 75 dX6_derives_172 rfl rfl (fun _ => ?_)
              refine y_if 175 190 Y dX6_derives_175 rfl rfl (fun c => ?_) (fun c => ?_)
              · replace h := h.1 c
                obtain ⟨o39, h⟩ := h
                refine y_iinc 190 Y [some mt, some (mi l1), some (mi l2), some (mi l3), some (mi (l4 + 1)), some (mi (T 14 l4))] dX6_derives_190 rfl rfl o39 ?_
                refine y_goto 193 19 Y dX6_derives_193 rfl rfl ?_
                obtain ⟨n1, hn, h⟩ := h
                exact Wk 19 _ [some mt, some (mi l1), some (mi l2), some (mi l3), some (mi (l4 + 1)), none] _ _ ⟨rfl, ⟨rfl, ⟨rfl, ⟨rfl, ⟨rfl, trivial⟩⟩⟩⟩⟩ (hIc n1 _ _ _ _ hn ((⟨rfl, _, _, _, _, rfl, rfl, h⟩)))
              · replace h := h.2 c
                refine y_aload_n 178 Y dX6_derives_178 rfl ?_
                refine y_aload_n 179 Y dX6_derives_179 rfl ?_
                refine y_getf 180 Y 74 dX6_derives_180 rfl rfl (fun _ => ?_)
                refine y_aload_n 183 Y dX6_derives_183 rfl ?_
                refine y_getf 184 Y 75 dX6_derives_184 rfl rfl (fun _ => ?_)
                refine y_call 187 Y (as := [mi (S36 74 0), mi (S36 75 0)]) [] dX6_derives_187 rfl rfl rfl rfl rfl h (fun r S40 hq hI _ => ?_)
                obtain ⟨rfl, h⟩ := Qv_ok hq
                replace h := h hI
                clear hq
                obtain ⟨o41, h⟩ := h
                refine y_iinc 190 Y [some mt, some (mi l1), some (mi l2), some (mi l3), some (mi (l4 + 1)), some (mi (T 14 l4))] dX6_derives_190 rfl rfl o41 ?_
                refine y_goto 193 19 Y dX6_derives_193 rfl rfl ?_
                obtain ⟨n1, hn, h⟩ := h
                exact Wk 19 _ [some mt, some (mi l1), some (mi l2), some (mi l3), some (mi (l4 + 1)), none] _ _ ⟨rfl, ⟨rfl, ⟨rfl, ⟨rfl, ⟨rfl, trivial⟩⟩⟩⟩⟩ (hIc n1 _ _ _ _ hn ((⟨rfl, _, _, _, _, rfl, rfl, h⟩)))
set_option maxHeartbeats 4000000 in
theorem of_operator {g : mG} {S : mS} {a1 : Int} {Qp : Option mV → mS → Prop}
    (hE : mI S → (-2147483648 ≤ a1 ∧ a1 ≤ 2147483647) → (0 ≤ a1) ∧ (a1 < 1000) ∧ (((S 20 a1) ≠ 2) → (((S 20 a1) = 4) → CX_reduce g [mt, mi 0] S (Qv fun S3 => mI S3 → (((S3 40 0) ≠ 0) → (((S3 20 a1) ≠ 5) → (-2147483648 ≤ (((S3 40 0) - 1) : Int) ∧ ((S3 40 0) - 1) ≤ 2147483647) ∧ (-2147483648 ≤ ((mup S3 40 0 ((S3 40 0) - 1)) 40 0) ∧ ((mup S3 40 0 ((S3 40 0) - 1)) 40 0) ≤ 2147483647 → (0 ≤ ((mup S3 40 0 ((S3 40 0) - 1)) 40 0)) ∧ (((mup S3 40 0 ((S3 40 0) - 1)) 40 0) < 600) ∧ (((S3 37 ((mup S3 40 0 ((S3 40 0) - 1)) 40 0)) ≠ 1) → (-2147483648 ≤ (((S3 36 0) - 1) : Int) ∧ ((S3 36 0) - 1) ≤ 2147483647) ∧ (0 ≤ ((S3 36 0) - 1)) ∧ (((S3 36 0) - 1) < 100) ∧ Qp (some (mi 1)) (mup (mup S3 40 0 ((S3 40 0) - 1)) 35 ((S3 36 0) - 1) 1)) ∧ (¬ ((S3 37 ((mup S3 40 0 ((S3 40 0) - 1)) 40 0)) ≠ 1) → (-2147483648 ≤ ((mup S3 40 0 ((S3 40 0) - 1)) 40 0) ∧ ((mup S3 40 0 ((S3 40 0) - 1)) 40 0) ≤ 2147483647 → (-2147483648 ≤ ((mup S3 40 0 ((S3 40 0) - 1)) 40 0) ∧ ((mup S3 40 0 ((S3 40 0) - 1)) 40 0) ≤ 2147483647 → CX_does g [mt, mi 2, mi (S3 38 ((mup S3 40 0 ((S3 40 0) - 1)) 40 0)), mi (-1), mi (S3 39 ((mup S3 40 0 ((S3 40 0) - 1)) 40 0))] (mup S3 40 0 ((S3 40 0) - 1)) (Qv fun S10 => mI S10 → Qp (some (mi 1)) S10)))))) ∧ (¬ ((S3 20 a1) ≠ 5) → (-2147483648 ≤ (((S3 40 0) - 1) : Int) ∧ ((S3 40 0) - 1) ≤ 2147483647) ∧ (0 ≤ ((S3 40 0) - 1)) ∧ (((S3 40 0) - 1) < 600) ∧ (-2147483648 ≤ (((S3 39 ((S3 40 0) - 1)) + 1) : Int) ∧ ((S3 39 ((S3 40 0) - 1)) + 1) ≤ 2147483647) ∧ (((S3 37 ((S3 40 0) - 1)) ≠ 1) → Qp (some (mi 0)) (mup S3 39 ((S3 40 0) - 1) ((S3 39 ((S3 40 0) - 1)) + 1))) ∧ (¬ ((S3 37 ((S3 40 0) - 1)) ≠ 1) → (-2147483648 ≤ ((mup S3 39 ((S3 40 0) - 1) ((S3 39 ((S3 40 0) - 1)) + 1)) 39 ((S3 40 0) - 1)) ∧ ((mup S3 39 ((S3 40 0) - 1) ((S3 39 ((S3 40 0) - 1)) + 1)) 39 ((S3 40 0) - 1)) ≤ 2147483647 → ((4 < ((mup S3 39 ((S3 40 0) - 1) ((S3 39 ((S3 40 0) - 1)) + 1)) 39 ((S3 40 0) - 1))) → Qp (some (mi 0)) (mup S3 39 ((S3 40 0) - 1) ((S3 39 ((S3 40 0) - 1)) + 1))) ∧ (¬ (4 < ((mup S3 39 ((S3 40 0) - 1) ((S3 39 ((S3 40 0) - 1)) + 1)) 39 ((S3 40 0) - 1))) → Qp (some (mi 1)) (mup S3 39 ((S3 40 0) - 1) ((S3 39 ((S3 40 0) - 1)) + 1))))))) ∧ (¬ ((S3 40 0) ≠ 0) → Qp (some (mi 0)) S3))) ∧ (¬ ((S 20 a1) = 4) → (((S 20 a1) = 5) → CX_reduce g [mt, mi 0] S (Qv fun S15 => mI S15 → (((S15 40 0) ≠ 0) → (((S15 20 a1) ≠ 5) → (-2147483648 ≤ (((S15 40 0) - 1) : Int) ∧ ((S15 40 0) - 1) ≤ 2147483647) ∧ (-2147483648 ≤ ((mup S15 40 0 ((S15 40 0) - 1)) 40 0) ∧ ((mup S15 40 0 ((S15 40 0) - 1)) 40 0) ≤ 2147483647 → (0 ≤ ((mup S15 40 0 ((S15 40 0) - 1)) 40 0)) ∧ (((mup S15 40 0 ((S15 40 0) - 1)) 40 0) < 600) ∧ (((S15 37 ((mup S15 40 0 ((S15 40 0) - 1)) 40 0)) ≠ 1) → (-2147483648 ≤ (((S15 36 0) - 1) : Int) ∧ ((S15 36 0) - 1) ≤ 2147483647) ∧ (0 ≤ ((S15 36 0) - 1)) ∧ (((S15 36 0) - 1) < 100) ∧ Qp (some (mi 1)) (mup (mup S15 40 0 ((S15 40 0) - 1)) 35 ((S15 36 0) - 1) 1)) ∧ (¬ ((S15 37 ((mup S15 40 0 ((S15 40 0) - 1)) 40 0)) ≠ 1) → (-2147483648 ≤ ((mup S15 40 0 ((S15 40 0) - 1)) 40 0) ∧ ((mup S15 40 0 ((S15 40 0) - 1)) 40 0) ≤ 2147483647 → (-2147483648 ≤ ((mup S15 40 0 ((S15 40 0) - 1)) 40 0) ∧ ((mup S15 40 0 ((S15 40 0) - 1)) 40 0) ≤ 2147483647 → CX_does g [mt, mi 2, mi (S15 38 ((mup S15 40 0 ((S15 40 0) - 1)) 40 0)), mi (-1), mi (S15 39 ((mup S15 40 0 ((S15 40 0) - 1)) 40 0))] (mup S15 40 0 ((S15 40 0) - 1)) (Qv fun S22 => mI S22 → Qp (some (mi 1)) S22)))))) ∧ (¬ ((S15 20 a1) ≠ 5) → (-2147483648 ≤ (((S15 40 0) - 1) : Int) ∧ ((S15 40 0) - 1) ≤ 2147483647) ∧ (0 ≤ ((S15 40 0) - 1)) ∧ (((S15 40 0) - 1) < 600) ∧ (-2147483648 ≤ (((S15 39 ((S15 40 0) - 1)) + 1) : Int) ∧ ((S15 39 ((S15 40 0) - 1)) + 1) ≤ 2147483647) ∧ (((S15 37 ((S15 40 0) - 1)) ≠ 1) → Qp (some (mi 0)) (mup S15 39 ((S15 40 0) - 1) ((S15 39 ((S15 40 0) - 1)) + 1))) ∧ (¬ ((S15 37 ((S15 40 0) - 1)) ≠ 1) → (-2147483648 ≤ ((mup S15 39 ((S15 40 0) - 1) ((S15 39 ((S15 40 0) - 1)) + 1)) 39 ((S15 40 0) - 1)) ∧ ((mup S15 39 ((S15 40 0) - 1) ((S15 39 ((S15 40 0) - 1)) + 1)) 39 ((S15 40 0) - 1)) ≤ 2147483647 → ((4 < ((mup S15 39 ((S15 40 0) - 1) ((S15 39 ((S15 40 0) - 1)) + 1)) 39 ((S15 40 0) - 1))) → Qp (some (mi 0)) (mup S15 39 ((S15 40 0) - 1) ((S15 39 ((S15 40 0) - 1)) + 1))) ∧ (¬ (4 < ((mup S15 39 ((S15 40 0) - 1) ((S15 39 ((S15 40 0) - 1)) + 1)) 39 ((S15 40 0) - 1))) → Qp (some (mi 1)) (mup S15 39 ((S15 40 0) - 1) ((S15 39 ((S15 40 0) - 1)) + 1))))))) ∧ (¬ ((S15 40 0) ≠ 0) → Qp (some (mi 0)) S15))) ∧ (¬ ((S 20 a1) = 5) → Qp (some (mi 0)) S))) ∧ (¬ ((S 20 a1) ≠ 2) → CX_sign g [mt, mi a1, mi (S 21 a1)] S (Qi fun v28 S27 => mI S27 → (-2147483648 ≤ v28 ∧ v28 ≤ 2147483647) → (v28 = 0 ∨ v28 = 1) ∧ Qp (some (mi v28)) S27)))
    : CX_operator g [mt, mi a1] S Qp := by
  refine cm_y ⟨by decide, rfl⟩ (by simp [mcat]) (by simp) (fun _ _ _ _ _ => False) ?_ ?_
  · intro ha hS P Y Wk hIc
    have h := hE hS (mokI (ha (mi a1) (by simp)))
    clear hE ha
    refine y_aload_n 0 Y dX6_operator_0 rfl ?_
    refine y_geta 1 Y 20 dX6_operator_1 rfl rfl ?_
    refine y_iload_n 4 Y dX6_operator_4 rfl ?_
    obtain ⟨o1, h⟩ := h
    obtain ⟨o2, h⟩ := h
    refine y_iald 5 Y dX6_operator_5 rfl rfl o1 o2 (fun _ => ?_)
    refine y_iconst 6 Y dX6_operator_6 rfl ?_
    refine y_icmp 7 22 Y dX6_operator_7 rfl rfl (fun c => ?_) (fun c => ?_)
    · replace h := h.1 c
      refine y_aload_n 22 Y dX6_operator_22 rfl ?_
      refine y_geta 23 Y 20 dX6_operator_23 rfl rfl ?_
      refine y_iload_n 26 Y dX6_operator_26 rfl ?_
      refine y_iald 27 Y dX6_operator_27 rfl rfl o1 o2 (fun _ => ?_)
      refine y_iconst 28 Y dX6_operator_28 rfl ?_
      refine y_icmp 29 44 Y dX6_operator_29 rfl rfl (fun c => ?_) (fun c => ?_)
      · replace h := h.1 c
        refine y_aload_n 44 Y dX6_operator_44 rfl ?_
        refine y_iconst 45 Y dX6_operator_45 rfl ?_
        refine y_call 46 Y (as := [mi 0]) [] dX6_operator_46 rfl rfl rfl rfl rfl h (fun r S3 hq hI _ => ?_)
        obtain ⟨rfl, h⟩ := Qv_ok hq
        replace h := h hI
        clear hq
        refine y_aload_n 49 Y dX6_operator_49 rfl ?_
        refine y_getf 50 Y 40 dX6_operator_50 rfl rfl (fun _ => ?_)
        refine y_if 53 58 Y dX6_operator_53 rfl rfl (fun c => ?_) (fun c => ?_)
        · replace h := h.1 c
          refine y_aload_n 58 Y dX6_operator_58 rfl ?_
          refine y_geta 59 Y 20 dX6_operator_59 rfl rfl ?_
          refine y_iload_n 62 Y dX6_operator_62 rfl ?_
          refine y_iald 63 Y dX6_operator_63 rfl rfl o1 o2 (fun _ => ?_)
          refine y_iconst 64 Y dX6_operator_64 rfl ?_
          refine y_icmp 65 119 Y dX6_operator_65 rfl rfl (fun c => ?_) (fun c => ?_)
          · replace h := h.1 c
            refine y_aload_n 119 Y dX6_operator_119 rfl ?_
            refine y_dup 120 Y dX6_operator_120 rfl ?_
            refine y_getf 121 Y 40 dX6_operator_121 rfl rfl (fun _ => ?_)
            refine y_iconst 124 Y dX6_operator_124 rfl ?_
            obtain ⟨o4, h⟩ := h
            refine y_isub 125 Y dX6_operator_125 o4 ?_
            refine y_putf 126 Y 40 dX6_operator_126 rfl rfl (fun q => absurd q (by decide)) ?_
            refine y_aload_n 129 Y dX6_operator_129 rfl ?_
            refine y_geta 130 Y 37 dX6_operator_130 rfl rfl ?_
            refine y_aload_n 133 Y dX6_operator_133 rfl ?_
            refine y_getf 134 Y 40 dX6_operator_134 rfl rfl (fun q => ?_)
            replace h := h q
            obtain ⟨o5, h⟩ := h
            obtain ⟨o6, h⟩ := h
            refine y_iald 137 Y dX6_operator_137 rfl rfl o5 o6 (fun _ => ?_)
            refine y_iconst 138 Y dX6_operator_138 rfl ?_
            refine y_icmp 139 169 Y dX6_operator_139 rfl rfl (fun c => ?_) (fun c => ?_)
            · replace h := h.1 c
              refine y_aload_n 169 Y dX6_operator_169 rfl ?_
              refine y_geta 170 Y 35 dX6_operator_170 rfl rfl ?_
              refine y_aload_n 173 Y dX6_operator_173 rfl ?_
              refine y_getf 174 Y 36 dX6_operator_174 rfl rfl (fun _ => ?_)
              refine y_iconst 177 Y dX6_operator_177 rfl ?_
              obtain ⟨o7, h⟩ := h
              refine y_isub 178 Y dX6_operator_178 o7 ?_
              refine y_iconst 179 Y dX6_operator_179 rfl ?_
              obtain ⟨o8, h⟩ := h
              obtain ⟨o9, h⟩ := h
              refine y_bast 180 Y dX6_operator_180 rfl rfl o8 o9 (by decide) ?_
              refine y_iconst 181 Y dX6_operator_181 rfl ?_
              exact y_zret 182 Y dX6_operator_182 rfl (by decide) h
            · replace h := h.2 c
              refine y_aload_n 142 Y dX6_operator_142 rfl ?_
              refine y_iconst 143 Y dX6_operator_143 rfl ?_
              refine y_aload_n 144 Y dX6_operator_144 rfl ?_
              refine y_geta 145 Y 38 dX6_operator_145 rfl rfl ?_
              refine y_aload_n 148 Y dX6_operator_148 rfl ?_
              refine y_getf 149 Y 40 dX6_operator_149 rfl rfl (fun q => ?_)
              replace h := h q
              refine y_iald 152 Y dX6_operator_152 rfl rfl o5 o6 (fun _ => ?_)
              refine y_iconst 153 Y dX6_operator_153 rfl ?_
              refine y_aload_n 154 Y dX6_operator_154 rfl ?_
              refine y_geta 155 Y 39 dX6_operator_155 rfl rfl ?_
              refine y_aload_n 158 Y dX6_operator_158 rfl ?_
              refine y_getf 159 Y 40 dX6_operator_159 rfl rfl (fun q => ?_)
              replace h := h q
              refine y_iald 162 Y dX6_operator_162 rfl rfl o5 o6 (fun _ => ?_)
              refine y_call 163 Y (as := [mi 2, mi (S3 38 ((mup S3 40 0 ((S3 40 0) - 1)) 40 0)), mi (-1), mi (S3 39 ((mup S3 40 0 ((S3 40 0) - 1)) 40 0))]) [] dX6_operator_163 rfl rfl rfl rfl rfl h (fun r S10 hq hI _ => ?_)
              obtain ⟨rfl, h⟩ := Qv_ok hq
              replace h := h hI
              clear hq
              refine y_goto 166 181 Y dX6_operator_166 rfl rfl ?_
              refine y_iconst 181 Y dX6_operator_181 rfl ?_
              exact y_zret 182 Y dX6_operator_182 rfl (by decide) h
          · replace h := h.2 c
            refine y_aload_n 68 Y dX6_operator_68 rfl ?_
            refine y_geta 69 Y 39 dX6_operator_69 rfl rfl ?_
            refine y_aload_n 72 Y dX6_operator_72 rfl ?_
            refine y_getf 73 Y 40 dX6_operator_73 rfl rfl (fun _ => ?_)
            refine y_iconst 76 Y dX6_operator_76 rfl ?_
            obtain ⟨o11, h⟩ := h
            refine y_isub 77 Y dX6_operator_77 o11 ?_
            refine y_dup2 78 Y dX6_operator_78 rfl rfl ?_
            obtain ⟨o12, h⟩ := h
            obtain ⟨o13, h⟩ := h
            refine y_iald 79 Y dX6_operator_79 rfl rfl o12 o13 (fun _ => ?_)
            refine y_iconst 80 Y dX6_operator_80 rfl ?_
            obtain ⟨o14, h⟩ := h
            refine y_iadd 81 Y dX6_operator_81 o14 ?_
            refine y_iast 82 Y dX6_operator_82 rfl rfl o12 o13 ?_
            refine y_aload_n 83 Y dX6_operator_83 rfl ?_
            refine y_geta 84 Y 37 dX6_operator_84 rfl rfl ?_
            refine y_aload_n 87 Y dX6_operator_87 rfl ?_
            refine y_getf 88 Y 40 dX6_operator_88 rfl rfl (fun _ => ?_)
            refine y_iconst 91 Y dX6_operator_91 rfl ?_
            refine y_isub 92 Y dX6_operator_92 o11 ?_
            refine y_iald 93 Y dX6_operator_93 rfl rfl o12 o13 (fun _ => ?_)
            refine y_iconst 94 Y dX6_operator_94 rfl ?_
            refine y_icmp 95 117 Y dX6_operator_95 rfl rfl (fun c => ?_) (fun c => ?_)
            · replace h := h.1 c
              refine y_iconst 117 Y dX6_operator_117 rfl ?_
              exact y_zret 118 Y dX6_operator_118 rfl (by decide) h
            · replace h := h.2 c
              refine y_aload_n 98 Y dX6_operator_98 rfl ?_
              refine y_geta 99 Y 39 dX6_operator_99 rfl rfl ?_
              refine y_aload_n 102 Y dX6_operator_102 rfl ?_
              refine y_getf 103 Y 40 dX6_operator_103 rfl rfl (fun _ => ?_)
              refine y_iconst 106 Y dX6_operator_106 rfl ?_
              refine y_isub 107 Y dX6_operator_107 o11 ?_
              refine y_iald 108 Y dX6_operator_108 rfl rfl o12 o13 (fun q => ?_)
              replace h := h q
              refine y_iconst 109 Y dX6_operator_109 rfl ?_
              refine y_icmp 110 117 Y dX6_operator_110 rfl rfl (fun c => ?_) (fun c => ?_)
              · replace h := h.1 c
                refine y_iconst 117 Y dX6_operator_117 rfl ?_
                exact y_zret 118 Y dX6_operator_118 rfl (by decide) h
              · replace h := h.2 c
                refine y_iconst 113 Y dX6_operator_113 rfl ?_
                refine y_goto 114 118 Y dX6_operator_114 rfl rfl ?_
                exact y_zret 118 Y dX6_operator_118 rfl (by decide) h
        · replace h := h.2 c
          refine y_iconst 56 Y dX6_operator_56 rfl ?_
          exact y_zret 57 Y dX6_operator_57 rfl (by decide) h
      · replace h := h.2 c
        refine y_aload_n 32 Y dX6_operator_32 rfl ?_
        refine y_geta 33 Y 20 dX6_operator_33 rfl rfl ?_
        refine y_iload_n 36 Y dX6_operator_36 rfl ?_
        refine y_iald 37 Y dX6_operator_37 rfl rfl o1 o2 (fun _ => ?_)
        refine y_iconst 38 Y dX6_operator_38 rfl ?_
        refine y_icmp 39 44 Y dX6_operator_39 rfl rfl (fun c => ?_) (fun c => ?_)
        · replace h := h.1 c
          refine y_aload_n 44 Y dX6_operator_44 rfl ?_
          refine y_iconst 45 Y dX6_operator_45 rfl ?_
          refine y_call 46 Y (as := [mi 0]) [] dX6_operator_46 rfl rfl rfl rfl rfl h (fun r S15 hq hI _ => ?_)
          obtain ⟨rfl, h⟩ := Qv_ok hq
          replace h := h hI
          clear hq
          refine y_aload_n 49 Y dX6_operator_49 rfl ?_
          refine y_getf 50 Y 40 dX6_operator_50 rfl rfl (fun _ => ?_)
          refine y_if 53 58 Y dX6_operator_53 rfl rfl (fun c => ?_) (fun c => ?_)
          · replace h := h.1 c
            refine y_aload_n 58 Y dX6_operator_58 rfl ?_
            refine y_geta 59 Y 20 dX6_operator_59 rfl rfl ?_
            refine y_iload_n 62 Y dX6_operator_62 rfl ?_
            refine y_iald 63 Y dX6_operator_63 rfl rfl o1 o2 (fun _ => ?_)
            refine y_iconst 64 Y dX6_operator_64 rfl ?_
            refine y_icmp 65 119 Y dX6_operator_65 rfl rfl (fun c => ?_) (fun c => ?_)
            · replace h := h.1 c
              refine y_aload_n 119 Y dX6_operator_119 rfl ?_
              refine y_dup 120 Y dX6_operator_120 rfl ?_
              refine y_getf 121 Y 40 dX6_operator_121 rfl rfl (fun _ => ?_)
              refine y_iconst 124 Y dX6_operator_124 rfl ?_
              obtain ⟨o16, h⟩ := h
              refine y_isub 125 Y dX6_operator_125 o16 ?_
              refine y_putf 126 Y 40 dX6_operator_126 rfl rfl (fun q => absurd q (by decide)) ?_
              refine y_aload_n 129 Y dX6_operator_129 rfl ?_
              refine y_geta 130 Y 37 dX6_operator_130 rfl rfl ?_
              refine y_aload_n 133 Y dX6_operator_133 rfl ?_
              refine y_getf 134 Y 40 dX6_operator_134 rfl rfl (fun q => ?_)
              replace h := h q
              obtain ⟨o17, h⟩ := h
              obtain ⟨o18, h⟩ := h
              refine y_iald 137 Y dX6_operator_137 rfl rfl o17 o18 (fun _ => ?_)
              refine y_iconst 138 Y dX6_operator_138 rfl ?_
              refine y_icmp 139 169 Y dX6_operator_139 rfl rfl (fun c => ?_) (fun c => ?_)
              · replace h := h.1 c
                refine y_aload_n 169 Y dX6_operator_169 rfl ?_
                refine y_geta 170 Y 35 dX6_operator_170 rfl rfl ?_
                refine y_aload_n 173 Y dX6_operator_173 rfl ?_
                refine y_getf 174 Y 36 dX6_operator_174 rfl rfl (fun _ => ?_)
                refine y_iconst 177 Y dX6_operator_177 rfl ?_
                obtain ⟨o19, h⟩ := h
                refine y_isub 178 Y dX6_operator_178 o19 ?_
                refine y_iconst 179 Y dX6_operator_179 rfl ?_
                obtain ⟨o20, h⟩ := h
                obtain ⟨o21, h⟩ := h
                refine y_bast 180 Y dX6_operator_180 rfl rfl o20 o21 (by decide) ?_
                refine y_iconst 181 Y dX6_operator_181 rfl ?_
                exact y_zret 182 Y dX6_operator_182 rfl (by decide) h
              · replace h := h.2 c
                refine y_aload_n 142 Y dX6_operator_142 rfl ?_
                refine y_iconst 143 Y dX6_operator_143 rfl ?_
                refine y_aload_n 144 Y dX6_operator_144 rfl ?_
                refine y_geta 145 Y 38 dX6_operator_145 rfl rfl ?_
                refine y_aload_n 148 Y dX6_operator_148 rfl ?_
                refine y_getf 149 Y 40 dX6_operator_149 rfl rfl (fun q => ?_)
                replace h := h q
                refine y_iald 152 Y dX6_operator_152 rfl rfl o17 o18 (fun _ => ?_)
                refine y_iconst 153 Y dX6_operator_153 rfl ?_
                refine y_aload_n 154 Y dX6_operator_154 rfl ?_
                refine y_geta 155 Y 39 dX6_operator_155 rfl rfl ?_
                refine y_aload_n 158 Y dX6_operator_158 rfl ?_
                refine y_getf 159 Y 40 dX6_operator_159 rfl rfl (fun q => ?_)
                replace h := h q
                refine y_iald 162 Y dX6_operator_162 rfl rfl o17 o18 (fun _ => ?_)
                refine y_call 163 Y (as := [mi 2, mi (S15 38 ((mup S15 40 0 ((S15 40 0) - 1)) 40 0)), mi (-1), mi (S15 39 ((mup S15 40 0 ((S15 40 0) - 1)) 40 0))]) [] dX6_operator_163 rfl rfl rfl rfl rfl h (fun r S22 hq hI _ => ?_)
                obtain ⟨rfl, h⟩ := Qv_ok hq
                replace h := h hI
                clear hq
                refine y_goto 166 181 Y dX6_operator_166 rfl rfl ?_
                refine y_iconst 181 Y dX6_operator_181 rfl ?_
                exact y_zret 182 Y dX6_operator_182 rfl (by decide) h
            · replace h := h.2 c
              refine y_aload_n 68 Y dX6_operator_68 rfl ?_
              refine y_geta 69 Y 39 dX6_operator_69 rfl rfl ?_
              refine y_aload_n 72 Y dX6_operator_72 rfl ?_
              refine y_getf 73 Y 40 dX6_operator_73 rfl rfl (fun _ => ?_)
              refine y_iconst 76 Y dX6_operator_76 rfl ?_
              obtain ⟨o23, h⟩ := h
              refine y_isub 77 Y dX6_operator_77 o23 ?_
              refine y_dup2 78 Y dX6_operator_78 rfl rfl ?_
              obtain ⟨o24, h⟩ := h
              obtain ⟨o25, h⟩ := h
              refine y_iald 79 Y dX6_operator_79 rfl rfl o24 o25 (fun _ => ?_)
              refine y_iconst 80 Y dX6_operator_80 rfl ?_
              obtain ⟨o26, h⟩ := h
              refine y_iadd 81 Y dX6_operator_81 o26 ?_
              refine y_iast 82 Y dX6_operator_82 rfl rfl o24 o25 ?_
              refine y_aload_n 83 Y dX6_operator_83 rfl ?_
              refine y_geta 84 Y 37 dX6_operator_84 rfl rfl ?_
              refine y_aload_n 87 Y dX6_operator_87 rfl ?_
              refine y_getf 88 Y 40 dX6_operator_88 rfl rfl (fun _ => ?_)
              refine y_iconst 91 Y dX6_operator_91 rfl ?_
              refine y_isub 92 Y dX6_operator_92 o23 ?_
              refine y_iald 93 Y dX6_operator_93 rfl rfl o24 o25 (fun _ => ?_)
              refine y_iconst 94 Y dX6_operator_94 rfl ?_
              refine y_icmp 95 117 Y dX6_operator_95 rfl rfl (fun c => ?_) (fun c => ?_)
              · replace h := h.1 c
                refine y_iconst 117 Y dX6_operator_117 rfl ?_
                exact y_zret 118 Y dX6_operator_118 rfl (by decide) h
              · replace h := h.2 c
                refine y_aload_n 98 Y dX6_operator_98 rfl ?_
                refine y_geta 99 Y 39 dX6_operator_99 rfl rfl ?_
                refine y_aload_n 102 Y dX6_operator_102 rfl ?_
                refine y_getf 103 Y 40 dX6_operator_103 rfl rfl (fun _ => ?_)
                refine y_iconst 106 Y dX6_operator_106 rfl ?_
                refine y_isub 107 Y dX6_operator_107 o23 ?_
                refine y_iald 108 Y dX6_operator_108 rfl rfl o24 o25 (fun q => ?_)
                replace h := h q
                refine y_iconst 109 Y dX6_operator_109 rfl ?_
                refine y_icmp 110 117 Y dX6_operator_110 rfl rfl (fun c => ?_) (fun c => ?_)
                · replace h := h.1 c
                  refine y_iconst 117 Y dX6_operator_117 rfl ?_
                  exact y_zret 118 Y dX6_operator_118 rfl (by decide) h
                · replace h := h.2 c
                  refine y_iconst 113 Y dX6_operator_113 rfl ?_
                  refine y_goto 114 118 Y dX6_operator_114 rfl rfl ?_
                  exact y_zret 118 Y dX6_operator_118 rfl (by decide) h
          · replace h := h.2 c
            refine y_iconst 56 Y dX6_operator_56 rfl ?_
            exact y_zret 57 Y dX6_operator_57 rfl (by decide) h
        · replace h := h.2 c
          refine y_iconst 42 Y dX6_operator_42 rfl ?_
          exact y_zret 43 Y dX6_operator_43 rfl (by decide) h
    · replace h := h.2 c
      refine y_aload_n 10 Y dX6_operator_10 rfl ?_
      refine y_iload_n 11 Y dX6_operator_11 rfl ?_
      refine y_aload_n 12 Y dX6_operator_12 rfl ?_
      refine y_geta 13 Y 21 dX6_operator_13 rfl rfl ?_
      refine y_iload_n 16 Y dX6_operator_16 rfl ?_
      refine y_iald 17 Y dX6_operator_17 rfl rfl o1 o2 (fun _ => ?_)
      refine y_call 18 Y (as := [mi a1, mi (S 21 a1)]) [] dX6_operator_18 rfl rfl rfl rfl rfl h (fun r S27 hq hI hr => ?_)
      obtain ⟨v28, rfl, h⟩ := Qi_ok hq
      replace h := h hI (mokI (hr _ rfl))
      clear hq hr
      exact y_zret 21 Y dX6_operator_21 rfl h.1 h.2
  · intro n pc L st T hi
    exact hi.elim
set_option maxHeartbeats 4000000 in
theorem of_ruleOfTwo {g : mG} {S : mS} {a1 a2 : Int} {Qp : Option mV → mS → Prop} (I52 : Nat → Int → Int → Int → Int → mS → Prop) (I55 : Nat → Int → Int → Int → Int → Int → mS → Prop) (I91 : Nat → Int → Int → Int → Int → mS → Prop) (I100 : Nat → Int → Int → Int → Int → mS → Prop) (I118 : Nat → Int → Int → Int → Int → mS → Prop) (I141 : Nat → Int → Int → Int → Int → mS → Prop) (I156 : Nat → Int → Int → Int → Int → mS → Prop) (I174 : Nat → Int → Int → Int → Int → mS → Prop) (I198 : Nat → Int → mS → Prop) (I206 : Nat → Int → Int → Int → Int → mS → Prop) (I216 : Nat → Int → Int → Int → Int → mS → Prop) (I243 : Nat → Int → Int → Int → Int → mS → Prop) (I260 : Nat → Int → Int → Int → mS → Prop)
    (hE : mI S → (-2147483648 ≤ a1 ∧ a1 ≤ 2147483647) → (-2147483648 ≤ a2 ∧ a2 ≤ 2147483647) → (-2147483648 ≤ ((a1 + 1) : Int) ∧ (a1 + 1) ≤ 2147483647) ∧ CX_child g [mt, mi a1, mi 1] S (Qi fun v3 S2 => mI S2 → (-2147483648 ≤ v3 ∧ v3 ≤ 2147483647) → (0 ≤ (a1 + 1)) ∧ ((a1 + 1) < 20300) ∧ (((S2 4 (a1 + 1)) ≠ 0) → (∃ n1, I52 n1 a1 a2 (a1 + 1) v3 S2)) ∧ (¬ ((S2 4 (a1 + 1)) ≠ 0) → (0 ≤ v3) ∧ (v3 < 20300) ∧ (((S2 4 v3) ≠ 0) → (∃ n1, I52 n1 a1 a2 (a1 + 1) v3 S2)) ∧ (¬ ((S2 4 v3) ≠ 0) → CX_whole g [mt, mi a2, mi (S2 5 (a1 + 1)), mi (S2 5 v3)] S2 (Qi fun v9 S8 => mI S8 → (-2147483648 ≤ v9 ∧ v9 ≤ 2147483647) → (∃ n1, I55 n1 a1 a2 (a1 + 1) v3 v9 S8))))))
    (h52 : ∀ (n : Nat) (l1 l2 l3 l4 : Int) (T : mS), mI T → (-2147483648 ≤ l1 ∧ l1 ≤ 2147483647) → (-2147483648 ≤ l2 ∧ l2 ≤ 2147483647) → (-2147483648 ≤ l3 ∧ l3 ≤ 2147483647) → (-2147483648 ≤ l4 ∧ l4 ≤ 2147483647) → I52 n l1 l2 l3 l4 T → (∃ n1, n1 < n ∧ I55 n1 l1 l2 l3 l4 (-1) T))
    (h55 : ∀ (n : Nat) (l1 l2 l3 l4 l5 : Int) (T : mS), mI T → (-2147483648 ≤ l1 ∧ l1 ≤ 2147483647) → (-2147483648 ≤ l2 ∧ l2 ≤ 2147483647) → (-2147483648 ≤ l3 ∧ l3 ≤ 2147483647) → (-2147483648 ≤ l4 ∧ l4 ≤ 2147483647) → (-2147483648 ≤ l5 ∧ l5 ≤ 2147483647) → I55 n l1 l2 l3 l4 l5 T → ((l5 < 0) → ((l2 ≠ 0) → (∃ n1, n1 < n ∧ I91 n1 l1 l2 l3 l4 T)) ∧ (¬ (l2 ≠ 0) → CX_isNumber g [mt, mi l3, mi 0] T (Qi fun v2 S1 => mI S1 → (-2147483648 ≤ v2 ∧ v2 ≤ 2147483647) → ((v2 = 0) → (∃ n1, n1 < n ∧ I91 n1 l1 l2 l3 l4 S1)) ∧ (¬ (v2 = 0) → CX_becomesInner g [mt, mi l1, mi l4] S1 (Qv fun S3 => mI S3 → Qp (some (mi 2)) S3))))) ∧ (¬ (l5 < 0) → CX_becomes g [mt, mi l1, mi l5] T (Qv fun S4 => mI S4 → Qp (some (mi 1)) S4)))
    (h91 : ∀ (n : Nat) (l1 l2 l3 l4 : Int) (T : mS), mI T → (-2147483648 ≤ l1 ∧ l1 ≤ 2147483647) → (-2147483648 ≤ l2 ∧ l2 ≤ 2147483647) → (-2147483648 ≤ l3 ∧ l3 ≤ 2147483647) → (-2147483648 ≤ l4 ∧ l4 ≤ 2147483647) → I91 n l1 l2 l3 l4 T → ((l2 = 0) → (∃ n1, n1 < n ∧ I100 n1 l1 l2 l3 l4 T)) ∧ (¬ (l2 = 0) → ((l2 ≠ 1) → (∃ n1, n1 < n ∧ I118 n1 l1 l2 l3 l4 T)) ∧ (¬ (l2 ≠ 1) → (∃ n1, n1 < n ∧ I100 n1 l1 l2 l3 l4 T))))
    (h100 : ∀ (n : Nat) (l1 l2 l3 l4 : Int) (T : mS), mI T → (-2147483648 ≤ l1 ∧ l1 ≤ 2147483647) → (-2147483648 ≤ l2 ∧ l2 ≤ 2147483647) → (-2147483648 ≤ l3 ∧ l3 ≤ 2147483647) → (-2147483648 ≤ l4 ∧ l4 ≤ 2147483647) → I100 n l1 l2 l3 l4 T → CX_isNumber g [mt, mi l4, mi 0] T (Qi fun v2 S1 => mI S1 → (-2147483648 ≤ v2 ∧ v2 ≤ 2147483647) → ((v2 = 0) → (∃ n1, n1 < n ∧ I118 n1 l1 l2 l3 l4 S1)) ∧ (¬ (v2 = 0) → CX_becomesInner g [mt, mi l1, mi l3] S1 (Qv fun S3 => mI S3 → Qp (some (mi 2)) S3))))
    (h118 : ∀ (n : Nat) (l1 l2 l3 l4 : Int) (T : mS), mI T → (-2147483648 ≤ l1 ∧ l1 ≤ 2147483647) → (-2147483648 ≤ l2 ∧ l2 ≤ 2147483647) → (-2147483648 ≤ l3 ∧ l3 ≤ 2147483647) → (-2147483648 ≤ l4 ∧ l4 ≤ 2147483647) → I118 n l1 l2 l3 l4 T → ((l2 ≠ 2) → (∃ n1, n1 < n ∧ I141 n1 l1 l2 l3 l4 T)) ∧ (¬ (l2 ≠ 2) → CX_isNumber g [mt, mi l3, mi 1] T (Qi fun v2 S1 => mI S1 → (-2147483648 ≤ v2 ∧ v2 ≤ 2147483647) → ((v2 = 0) → (∃ n1, n1 < n ∧ I141 n1 l1 l2 l3 l4 S1)) ∧ (¬ (v2 = 0) → CX_becomesInner g [mt, mi l1, mi l4] S1 (Qv fun S3 => mI S3 → Qp (some (mi 3)) S3)))))
    (h141 : ∀ (n : Nat) (l1 l2 l3 l4 : Int) (T : mS), mI T → (-2147483648 ≤ l1 ∧ l1 ≤ 2147483647) → (-2147483648 ≤ l2 ∧ l2 ≤ 2147483647) → (-2147483648 ≤ l3 ∧ l3 ≤ 2147483647) → (-2147483648 ≤ l4 ∧ l4 ≤ 2147483647) → I141 n l1 l2 l3 l4 T → ((l2 = 2) → (∃ n1, n1 < n ∧ I156 n1 l1 l2 l3 l4 T)) ∧ (¬ (l2 = 2) → ((l2 = 3) → (∃ n1, n1 < n ∧ I156 n1 l1 l2 l3 l4 T)) ∧ (¬ (l2 = 3) → ((l2 ≠ 5) → (∃ n1, n1 < n ∧ I174 n1 l1 l2 l3 l4 T)) ∧ (¬ (l2 ≠ 5) → (∃ n1, n1 < n ∧ I156 n1 l1 l2 l3 l4 T)))))
    (h156 : ∀ (n : Nat) (l1 l2 l3 l4 : Int) (T : mS), mI T → (-2147483648 ≤ l1 ∧ l1 ≤ 2147483647) → (-2147483648 ≤ l2 ∧ l2 ≤ 2147483647) → (-2147483648 ≤ l3 ∧ l3 ≤ 2147483647) → (-2147483648 ≤ l4 ∧ l4 ≤ 2147483647) → I156 n l1 l2 l3 l4 T → CX_isNumber g [mt, mi l4, mi 1] T (Qi fun v2 S1 => mI S1 → (-2147483648 ≤ v2 ∧ v2 ≤ 2147483647) → ((v2 = 0) → (∃ n1, n1 < n ∧ I174 n1 l1 l2 l3 l4 S1)) ∧ (¬ (v2 = 0) → CX_becomesInner g [mt, mi l1, mi l3] S1 (Qv fun S3 => mI S3 → Qp (some (mi 3)) S3))))
    (h174 : ∀ (n : Nat) (l1 l2 l3 l4 : Int) (T : mS), mI T → (-2147483648 ≤ l1 ∧ l1 ≤ 2147483647) → (-2147483648 ≤ l2 ∧ l2 ≤ 2147483647) → (-2147483648 ≤ l3 ∧ l3 ≤ 2147483647) → (-2147483648 ≤ l4 ∧ l4 ≤ 2147483647) → I174 n l1 l2 l3 l4 T → ((l2 ≠ 2) → (∃ n1, n1 < n ∧ I206 n1 l1 l2 l3 l4 T)) ∧ (¬ (l2 ≠ 2) → CX_isNumber g [mt, mi l3, mi 0] T (Qi fun v2 S1 => mI S1 → (-2147483648 ≤ v2 ∧ v2 ≤ 2147483647) → ((v2 ≠ 0) → (∃ n1, n1 < n ∧ I198 n1 l1 S1)) ∧ (¬ (v2 ≠ 0) → CX_isNumber g [mt, mi l4, mi 0] S1 (Qi fun v4 S3 => mI S3 → (-2147483648 ≤ v4 ∧ v4 ≤ 2147483647) → ((v4 = 0) → (∃ n1, n1 < n ∧ I206 n1 l1 l2 l3 l4 S3)) ∧ (¬ (v4 = 0) → (∃ n1, n1 < n ∧ I198 n1 l1 S3)))))))
    (h198 : ∀ (n : Nat) (l1 : Int) (T : mS), mI T → (-2147483648 ≤ l1 ∧ l1 ≤ 2147483647) → I198 n l1 T → CX_becomes g [mt, mi l1, mi 0] T (Qv fun S1 => mI S1 → Qp (some (mi 4)) S1))
    (h206 : ∀ (n : Nat) (l1 l2 l3 l4 : Int) (T : mS), mI T → (-2147483648 ≤ l1 ∧ l1 ≤ 2147483647) → (-2147483648 ≤ l2 ∧ l2 ≤ 2147483647) → (-2147483648 ≤ l3 ∧ l3 ≤ 2147483647) → (-2147483648 ≤ l4 ∧ l4 ≤ 2147483647) → I206 n l1 l2 l3 l4 T → ((l2 = 1) → (∃ n1, n1 < n ∧ I216 n1 l1 l2 l3 l4 T)) ∧ (¬ (l2 = 1) → ((l2 ≠ 3) → (∃ n1, n1 < n ∧ I243 n1 l1 l2 l3 l4 T)) ∧ (¬ (l2 ≠ 3) → (∃ n1, n1 < n ∧ I216 n1 l1 l2 l3 l4 T))))
    (h216 : ∀ (n : Nat) (l1 l2 l3 l4 : Int) (T : mS), mI T → (-2147483648 ≤ l1 ∧ l1 ≤ 2147483647) → (-2147483648 ≤ l2 ∧ l2 ≤ 2147483647) → (-2147483648 ≤ l3 ∧ l3 ≤ 2147483647) → (-2147483648 ≤ l4 ∧ l4 ≤ 2147483647) → I216 n l1 l2 l3 l4 T → CX_areSame g [mt, mi l3, mi l4] T (Qi fun v2 S1 => mI S1 → (-2147483648 ≤ v2 ∧ v2 ≤ 2147483647) → ((v2 = 0) → (∃ n1, n1 < n ∧ I243 n1 l1 l2 l3 l4 S1)) ∧ (¬ (v2 = 0) → ((l2 ≠ 3) → CX_becomes g [mt, mi l1, mi 0] S1 (Qv fun S3 => mI S3 → Qp (some (mi 5)) S3)) ∧ (¬ (l2 ≠ 3) → CX_becomes g [mt, mi l1, mi 1] S1 (Qv fun S4 => mI S4 → Qp (some (mi 5)) S4)))))
    (h243 : ∀ (n : Nat) (l1 l2 l3 l4 : Int) (T : mS), mI T → (-2147483648 ≤ l1 ∧ l1 ≤ 2147483647) → (-2147483648 ≤ l2 ∧ l2 ≤ 2147483647) → (-2147483648 ≤ l3 ∧ l3 ≤ 2147483647) → (-2147483648 ≤ l4 ∧ l4 ≤ 2147483647) → I243 n l1 l2 l3 l4 T → ((l2 ≠ 0) → (∃ n1, n1 < n ∧ I260 n1 l1 l3 (-1) T)) ∧ (¬ (l2 ≠ 0) → CX_gathered g [mt, mi l3, mi l4] T (Qi fun v2 S1 => mI S1 → (-2147483648 ≤ v2 ∧ v2 ≤ 2147483647) → (∃ n1, n1 < n ∧ I260 n1 l1 l3 v2 S1))))
    (h260 : ∀ (n : Nat) (l1 l3 l6 : Int) (T : mS), mI T → (-2147483648 ≤ l1 ∧ l1 ≤ 2147483647) → (-2147483648 ≤ l3 ∧ l3 ≤ 2147483647) → (-2147483648 ≤ l6 ∧ l6 ≤ 2147483647) → I260 n l1 l3 l6 T → ((l6 < 0) → Qp (some (mi 0)) T) ∧ (¬ (l6 < 0) → (-2147483648 ≤ ((l3 + 1) : Int) ∧ (l3 + 1) ≤ 2147483647) ∧ (0 ≤ (l3 + 1)) ∧ ((l3 + 1) < 20300) ∧ CX_becomesInner g [mt, mi l1, mi l3] (mup T 5 (l3 + 1) l6) (Qv fun S4 => mI S4 → Qp (some (mi 7)) S4)))
    : CX_ruleOfTwo g [mt, mi a1, mi a2] S Qp := by
  refine cm_y ⟨by decide, rfl⟩ (by simp [mcat]) (by simp) (fun n pc L st S => (pc = 52 ∧ ∃ (l1 : Int) (l2 : Int) (l3 : Int) (l4 : Int), L = [some mt, some (mi l1), some (mi l2), some (mi l3), some (mi l4), none, none] ∧ st = [] ∧ I52 n l1 l2 l3 l4 S) ∨ (pc = 55 ∧ ∃ (l1 : Int) (l2 : Int) (l3 : Int) (l4 : Int) (l5 : Int), L = [some mt, some (mi l1), some (mi l2), some (mi l3), some (mi l4), some (mi l5), none] ∧ st = [] ∧ I55 n l1 l2 l3 l4 l5 S) ∨ (pc = 91 ∧ ∃ (l1 : Int) (l2 : Int) (l3 : Int) (l4 : Int), L = [some mt, some (mi l1), some (mi l2), some (mi l3), some (mi l4), none, none] ∧ st = [] ∧ I91 n l1 l2 l3 l4 S) ∨ (pc = 100 ∧ ∃ (l1 : Int) (l2 : Int) (l3 : Int) (l4 : Int), L = [some mt, some (mi l1), some (mi l2), some (mi l3), some (mi l4), none, none] ∧ st = [] ∧ I100 n l1 l2 l3 l4 S) ∨ (pc = 118 ∧ ∃ (l1 : Int) (l2 : Int) (l3 : Int) (l4 : Int), L = [some mt, some (mi l1), some (mi l2), some (mi l3), some (mi l4), none, none] ∧ st = [] ∧ I118 n l1 l2 l3 l4 S) ∨ (pc = 141 ∧ ∃ (l1 : Int) (l2 : Int) (l3 : Int) (l4 : Int), L = [some mt, some (mi l1), some (mi l2), some (mi l3), some (mi l4), none, none] ∧ st = [] ∧ I141 n l1 l2 l3 l4 S) ∨ (pc = 156 ∧ ∃ (l1 : Int) (l2 : Int) (l3 : Int) (l4 : Int), L = [some mt, some (mi l1), some (mi l2), some (mi l3), some (mi l4), none, none] ∧ st = [] ∧ I156 n l1 l2 l3 l4 S) ∨ (pc = 174 ∧ ∃ (l1 : Int) (l2 : Int) (l3 : Int) (l4 : Int), L = [some mt, some (mi l1), some (mi l2), some (mi l3), some (mi l4), none, none] ∧ st = [] ∧ I174 n l1 l2 l3 l4 S) ∨ (pc = 198 ∧ ∃ (l1 : Int), L = [some mt, some (mi l1), none, none, none, none, none] ∧ st = [] ∧ I198 n l1 S) ∨ (pc = 206 ∧ ∃ (l1 : Int) (l2 : Int) (l3 : Int) (l4 : Int), L = [some mt, some (mi l1), some (mi l2), some (mi l3), some (mi l4), none, none] ∧ st = [] ∧ I206 n l1 l2 l3 l4 S) ∨ (pc = 216 ∧ ∃ (l1 : Int) (l2 : Int) (l3 : Int) (l4 : Int), L = [some mt, some (mi l1), some (mi l2), some (mi l3), some (mi l4), none, none] ∧ st = [] ∧ I216 n l1 l2 l3 l4 S) ∨ (pc = 243 ∧ ∃ (l1 : Int) (l2 : Int) (l3 : Int) (l4 : Int), L = [some mt, some (mi l1), some (mi l2), some (mi l3), some (mi l4), none, none] ∧ st = [] ∧ I243 n l1 l2 l3 l4 S) ∨ (pc = 260 ∧ ∃ (l1 : Int) (l3 : Int) (l6 : Int), L = [some mt, some (mi l1), none, some (mi l3), none, none, some (mi l6)] ∧ st = [] ∧ I260 n l1 l3 l6 S)) ?_ ?_
  · intro ha hS P Y Wk hIc
    have h := hE hS (mokI (ha (mi a1) (by simp))) (mokI (ha (mi a2) (by simp)))
    clear hE ha h52 h55 h91 h100 h118 h141 h156 h174 h198 h206 h216 h243 h260
    refine y_iload_n 0 Y dX6_ruleOfTwo_0 rfl ?_
    refine y_iconst 1 Y dX6_ruleOfTwo_1 rfl ?_
    obtain ⟨o1, h⟩ := h
    refine y_iadd 2 Y dX6_ruleOfTwo_2 o1 ?_
    refine y_istore_n 3 Y [some mt, some (mi a1), some (mi a2), some (mi (a1 + 1)), none, none, none] dX6_ruleOfTwo_3 rfl rfl ?_
    refine y_aload_n 4 Y dX6_ruleOfTwo_4 rfl ?_
    refine y_iload_n 5 Y dX6_ruleOfTwo_5 rfl ?_
    refine y_iconst 6 Y dX6_ruleOfTwo_6 rfl ?_
    refine y_call 7 Y (as := [mi a1, mi 1]) [] dX6_ruleOfTwo_7 rfl rfl rfl rfl rfl h (fun r S2 hq hI hr => ?_)
    obtain ⟨v3, rfl, h⟩ := Qi_ok hq
    replace h := h hI (mokI (hr _ rfl))
    clear hq hr
    refine y_istore 10 Y [some mt, some (mi a1), some (mi a2), some (mi (a1 + 1)), some (mi v3), none, none] dX6_ruleOfTwo_10 rfl rfl ?_
    refine y_aload_n 12 Y dX6_ruleOfTwo_12 rfl ?_
    refine y_geta 13 Y 4 dX6_ruleOfTwo_13 rfl rfl ?_
    refine y_iload_n 16 Y dX6_ruleOfTwo_16 rfl ?_
    obtain ⟨o4, h⟩ := h
    obtain ⟨o5, h⟩ := h
    refine y_iald 17 Y dX6_ruleOfTwo_17 rfl rfl o4 o5 (fun _ => ?_)
    refine y_if 18 52 Y dX6_ruleOfTwo_18 rfl rfl (fun c => ?_) (fun c => ?_)
    · replace h := h.1 c
      obtain ⟨n1, h⟩ := h
      exact Wk 52 _ [some mt, some (mi a1), some (mi a2), some (mi (a1 + 1)), some (mi v3), none, none] _ _ ⟨rfl, ⟨rfl, ⟨rfl, ⟨rfl, ⟨rfl, trivial⟩⟩⟩⟩⟩ (hIc n1 _ _ _ _ (Or.inl (⟨rfl, _, _, _, _, rfl, rfl, h⟩)))
    · replace h := h.2 c
      refine y_aload_n 21 Y dX6_ruleOfTwo_21 rfl ?_
      refine y_geta 22 Y 4 dX6_ruleOfTwo_22 rfl rfl ?_
      refine y_iload 25 Y dX6_ruleOfTwo_25 rfl ?_
      obtain ⟨o6, h⟩ := h
      obtain ⟨o7, h⟩ := h
      refine y_iald 27 Y dX6_ruleOfTwo_27 rfl rfl o6 o7 (fun _ => ?_)
      refine y_if 28 52 Y dX6_ruleOfTwo_28 rfl rfl (fun c => ?_) (fun c => ?_)
      · replace h := h.1 c
        obtain ⟨n1, h⟩ := h
        exact Wk 52 _ [some mt, some (mi a1), some (mi a2), some (mi (a1 + 1)), some (mi v3), none, none] _ _ ⟨rfl, ⟨rfl, ⟨rfl, ⟨rfl, ⟨rfl, trivial⟩⟩⟩⟩⟩ (hIc n1 _ _ _ _ (Or.inl (⟨rfl, _, _, _, _, rfl, rfl, h⟩)))
      · replace h := h.2 c
        refine y_aload_n 31 Y dX6_ruleOfTwo_31 rfl ?_
        refine y_iload_n 32 Y dX6_ruleOfTwo_32 rfl ?_
        refine y_aload_n 33 Y dX6_ruleOfTwo_33 rfl ?_
        refine y_geta 34 Y 5 dX6_ruleOfTwo_34 rfl rfl ?_
        refine y_iload_n 37 Y dX6_ruleOfTwo_37 rfl ?_
        refine y_iald 38 Y dX6_ruleOfTwo_38 rfl rfl o4 o5 (fun _ => ?_)
        refine y_aload_n 39 Y dX6_ruleOfTwo_39 rfl ?_
        refine y_geta 40 Y 5 dX6_ruleOfTwo_40 rfl rfl ?_
        refine y_iload 43 Y dX6_ruleOfTwo_43 rfl ?_
        refine y_iald 45 Y dX6_ruleOfTwo_45 rfl rfl o6 o7 (fun _ => ?_)
        refine y_call 46 Y (as := [mi a2, mi (S2 5 (a1 + 1)), mi (S2 5 v3)]) [] dX6_ruleOfTwo_46 rfl rfl rfl rfl rfl h (fun r S8 hq hI hr => ?_)
        obtain ⟨v9, rfl, h⟩ := Qi_ok hq
        replace h := h hI (mokI (hr _ rfl))
        clear hq hr
        refine y_goto 49 53 Y dX6_ruleOfTwo_49 rfl rfl ?_
        refine y_istore 53 Y [some mt, some (mi a1), some (mi a2), some (mi (a1 + 1)), some (mi v3), some (mi v9), none] dX6_ruleOfTwo_53 rfl rfl ?_
        obtain ⟨n1, h⟩ := h
        exact Wk 55 _ [some mt, some (mi a1), some (mi a2), some (mi (a1 + 1)), some (mi v3), some (mi v9), none] _ _ ⟨rfl, ⟨rfl, ⟨rfl, ⟨rfl, ⟨rfl, ⟨rfl, trivial⟩⟩⟩⟩⟩⟩ (hIc n1 _ _ _ _ (Or.inr (Or.inl (⟨rfl, _, _, _, _, _, rfl, rfl, h⟩))))
  · intro n pc L st T hi hS hL P Y Wk hIc
    clear hE
    rcases hi with ⟨rfl, l1, l2, l3, l4, rfl, rfl, hi⟩ | ⟨rfl, l1, l2, l3, l4, l5, rfl, rfl, hi⟩ | ⟨rfl, l1, l2, l3, l4, rfl, rfl, hi⟩ | ⟨rfl, l1, l2, l3, l4, rfl, rfl, hi⟩ | ⟨rfl, l1, l2, l3, l4, rfl, rfl, hi⟩ | ⟨rfl, l1, l2, l3, l4, rfl, rfl, hi⟩ | ⟨rfl, l1, l2, l3, l4, rfl, rfl, hi⟩ | ⟨rfl, l1, l2, l3, l4, rfl, rfl, hi⟩ | ⟨rfl, l1, rfl, rfl, hi⟩ | ⟨rfl, l1, l2, l3, l4, rfl, rfl, hi⟩ | ⟨rfl, l1, l2, l3, l4, rfl, rfl, hi⟩ | ⟨rfl, l1, l2, l3, l4, rfl, rfl, hi⟩ | ⟨rfl, l1, l3, l6, rfl, rfl, hi⟩
    · have h := h52 n l1 l2 l3 l4 T hS (hL 1 _ rfl) (hL 2 _ rfl) (hL 3 _ rfl) (hL 4 _ rfl) hi
      clear hL hi h52 h55 h91 h100 h118 h141 h156 h174 h198 h206 h216 h243 h260
      refine y_iconst 52 Y dX6_ruleOfTwo_52 rfl ?_
      refine y_istore 53 Y [some mt, some (mi l1), some (mi l2), some (mi l3), some (mi l4), some (mi (-1)), none] dX6_ruleOfTwo_53 rfl rfl ?_
      obtain ⟨n1, hn, h⟩ := h
      exact Wk 55 _ [some mt, some (mi l1), some (mi l2), some (mi l3), some (mi l4), some (mi (-1)), none] _ _ ⟨rfl, ⟨rfl, ⟨rfl, ⟨rfl, ⟨rfl, ⟨rfl, trivial⟩⟩⟩⟩⟩⟩ (hIc n1 _ _ _ _ hn (Or.inr (Or.inl (⟨rfl, _, _, _, _, _, rfl, rfl, h⟩))))
    · have h := h55 n l1 l2 l3 l4 l5 T hS (hL 1 _ rfl) (hL 2 _ rfl) (hL 3 _ rfl) (hL 4 _ rfl) (hL 5 _ rfl) hi
      clear hL hi h52 h55 h91 h100 h118 h141 h156 h174 h198 h206 h216 h243 h260
      refine y_iload 55 Y dX6_ruleOfTwo_55 rfl ?_
      refine y_if 57 69 Y dX6_ruleOfTwo_57 rfl rfl (fun c => ?_) (fun c => ?_)
      · replace h := h.1 c
        refine y_iload_n 69 Y dX6_ruleOfTwo_69 rfl ?_
        refine y_if 70 91 Y dX6_ruleOfTwo_70 rfl rfl (fun c => ?_) (fun c => ?_)
        · replace h := h.1 c
          obtain ⟨n1, hn, h⟩ := h
          exact Wk 91 _ [some mt, some (mi l1), some (mi l2), some (mi l3), some (mi l4), none, none] _ _ ⟨rfl, ⟨rfl, ⟨rfl, ⟨rfl, ⟨rfl, trivial⟩⟩⟩⟩⟩ (hIc n1 _ _ _ _ hn (Or.inr (Or.inr (Or.inl (⟨rfl, _, _, _, _, rfl, rfl, h⟩)))))
        · replace h := h.2 c
          refine y_aload_n 73 Y dX6_ruleOfTwo_73 rfl ?_
          refine y_iload_n 74 Y dX6_ruleOfTwo_74 rfl ?_
          refine y_iconst 75 Y dX6_ruleOfTwo_75 rfl ?_
          refine y_call 76 Y (as := [mi l3, mi 0]) [] dX6_ruleOfTwo_76 rfl rfl rfl rfl rfl h (fun r S1 hq hI hr => ?_)
          obtain ⟨v2, rfl, h⟩ := Qi_ok hq
          replace h := h hI (mokI (hr _ rfl))
          clear hq hr
          refine y_if 79 91 Y dX6_ruleOfTwo_79 rfl rfl (fun c => ?_) (fun c => ?_)
          · replace h := h.1 c
            obtain ⟨n1, hn, h⟩ := h
            exact Wk 91 _ [some mt, some (mi l1), some (mi l2), some (mi l3), some (mi l4), none, none] _ _ ⟨rfl, ⟨rfl, ⟨rfl, ⟨rfl, ⟨rfl, trivial⟩⟩⟩⟩⟩ (hIc n1 _ _ _ _ hn (Or.inr (Or.inr (Or.inl (⟨rfl, _, _, _, _, rfl, rfl, h⟩)))))
          · replace h := h.2 c
            refine y_aload_n 82 Y dX6_ruleOfTwo_82 rfl ?_
            refine y_iload_n 83 Y dX6_ruleOfTwo_83 rfl ?_
            refine y_iload 84 Y dX6_ruleOfTwo_84 rfl ?_
            refine y_call 86 Y (as := [mi l1, mi l4]) [] dX6_ruleOfTwo_86 rfl rfl rfl rfl rfl h (fun r S3 hq hI _ => ?_)
            obtain ⟨rfl, h⟩ := Qv_ok hq
            replace h := h hI
            clear hq
            refine y_iconst 89 Y dX6_ruleOfTwo_89 rfl ?_
            exact y_iret 90 Y dX6_ruleOfTwo_90 rfl h
      · replace h := h.2 c
        refine y_aload_n 60 Y dX6_ruleOfTwo_60 rfl ?_
        refine y_iload_n 61 Y dX6_ruleOfTwo_61 rfl ?_
        refine y_iload 62 Y dX6_ruleOfTwo_62 rfl ?_
        refine y_call 64 Y (as := [mi l1, mi l5]) [] dX6_ruleOfTwo_64 rfl rfl rfl rfl rfl h (fun r S4 hq hI _ => ?_)
        obtain ⟨rfl, h⟩ := Qv_ok hq
        replace h := h hI
        clear hq
        refine y_iconst 67 Y dX6_ruleOfTwo_67 rfl ?_
        exact y_iret 68 Y dX6_ruleOfTwo_68 rfl h
    · have h := h91 n l1 l2 l3 l4 T hS (hL 1 _ rfl) (hL 2 _ rfl) (hL 3 _ rfl) (hL 4 _ rfl) hi
      clear hL hi h52 h55 h91 h100 h118 h141 h156 h174 h198 h206 h216 h243 h260
      refine y_iload_n 91 Y dX6_ruleOfTwo_91 rfl ?_
      refine y_if 92 100 Y dX6_ruleOfTwo_92 rfl rfl (fun c => ?_) (fun c => ?_)
      · replace h := h.1 c
        obtain ⟨n1, hn, h⟩ := h
        exact Wk 100 _ [some mt, some (mi l1), some (mi l2), some (mi l3), some (mi l4), none, none] _ _ ⟨rfl, ⟨rfl, ⟨rfl, ⟨rfl, ⟨rfl, trivial⟩⟩⟩⟩⟩ (hIc n1 _ _ _ _ hn (Or.inr (Or.inr (Or.inr (Or.inl (⟨rfl, _, _, _, _, rfl, rfl, h⟩))))))
      · replace h := h.2 c
        refine y_iload_n 95 Y dX6_ruleOfTwo_95 rfl ?_
        refine y_iconst 96 Y dX6_ruleOfTwo_96 rfl ?_
        refine y_icmp 97 118 Y dX6_ruleOfTwo_97 rfl rfl (fun c => ?_) (fun c => ?_)
        · replace h := h.1 c
          obtain ⟨n1, hn, h⟩ := h
          exact Wk 118 _ [some mt, some (mi l1), some (mi l2), some (mi l3), some (mi l4), none, none] _ _ ⟨rfl, ⟨rfl, ⟨rfl, ⟨rfl, ⟨rfl, trivial⟩⟩⟩⟩⟩ (hIc n1 _ _ _ _ hn (Or.inr (Or.inr (Or.inr (Or.inr (Or.inl (⟨rfl, _, _, _, _, rfl, rfl, h⟩)))))))
        · replace h := h.2 c
          obtain ⟨n1, hn, h⟩ := h
          exact Wk 100 _ [some mt, some (mi l1), some (mi l2), some (mi l3), some (mi l4), none, none] _ _ ⟨rfl, ⟨rfl, ⟨rfl, ⟨rfl, ⟨rfl, trivial⟩⟩⟩⟩⟩ (hIc n1 _ _ _ _ hn (Or.inr (Or.inr (Or.inr (Or.inl (⟨rfl, _, _, _, _, rfl, rfl, h⟩))))))
    · have h := h100 n l1 l2 l3 l4 T hS (hL 1 _ rfl) (hL 2 _ rfl) (hL 3 _ rfl) (hL 4 _ rfl) hi
      clear hL hi h52 h55 h91 h100 h118 h141 h156 h174 h198 h206 h216 h243 h260
      refine y_aload_n 100 Y dX6_ruleOfTwo_100 rfl ?_
      refine y_iload 101 Y dX6_ruleOfTwo_101 rfl ?_
      refine y_iconst 103 Y dX6_ruleOfTwo_103 rfl ?_
      refine y_call 104 Y (as := [mi l4, mi 0]) [] dX6_ruleOfTwo_104 rfl rfl rfl rfl rfl h (fun r S1 hq hI hr => ?_)
      obtain ⟨v2, rfl, h⟩ := Qi_ok hq
      replace h := h hI (mokI (hr _ rfl))
      clear hq hr
      refine y_if 107 118 Y dX6_ruleOfTwo_107 rfl rfl (fun c => ?_) (fun c => ?_)
      · replace h := h.1 c
        obtain ⟨n1, hn, h⟩ := h
        exact Wk 118 _ [some mt, some (mi l1), some (mi l2), some (mi l3), some (mi l4), none, none] _ _ ⟨rfl, ⟨rfl, ⟨rfl, ⟨rfl, ⟨rfl, trivial⟩⟩⟩⟩⟩ (hIc n1 _ _ _ _ hn (Or.inr (Or.inr (Or.inr (Or.inr (Or.inl (⟨rfl, _, _, _, _, rfl, rfl, h⟩)))))))
      · replace h := h.2 c
        refine y_aload_n 110 Y dX6_ruleOfTwo_110 rfl ?_
        refine y_iload_n 111 Y dX6_ruleOfTwo_111 rfl ?_
        refine y_iload_n 112 Y dX6_ruleOfTwo_112 rfl ?_
        refine y_call 113 Y (as := [mi l1, mi l3]) [] dX6_ruleOfTwo_113 rfl rfl rfl rfl rfl h (fun r S3 hq hI _ => ?_)
        obtain ⟨rfl, h⟩ := Qv_ok hq
        replace h := h hI
        clear hq
        refine y_iconst 116 Y dX6_ruleOfTwo_116 rfl ?_
        exact y_iret 117 Y dX6_ruleOfTwo_117 rfl h
    · have h := h118 n l1 l2 l3 l4 T hS (hL 1 _ rfl) (hL 2 _ rfl) (hL 3 _ rfl) (hL 4 _ rfl) hi
      clear hL hi h52 h55 h91 h100 h118 h141 h156 h174 h198 h206 h216 h243 h260
      refine y_iload_n 118 Y dX6_ruleOfTwo_118 rfl ?_
      refine y_iconst 119 Y dX6_ruleOfTwo_119 rfl ?_
      refine y_icmp 120 141 Y dX6_ruleOfTwo_120 rfl rfl (fun c => ?_) (fun c => ?_)
      · replace h := h.1 c
        obtain ⟨n1, hn, h⟩ := h
        exact Wk 141 _ [some mt, some (mi l1), some (mi l2), some (mi l3), some (mi l4), none, none] _ _ ⟨rfl, ⟨rfl, ⟨rfl, ⟨rfl, ⟨rfl, trivial⟩⟩⟩⟩⟩ (hIc n1 _ _ _ _ hn (Or.inr (Or.inr (Or.inr (Or.inr (Or.inr (Or.inl (⟨rfl, _, _, _, _, rfl, rfl, h⟩))))))))
      · replace h := h.2 c
        refine y_aload_n 123 Y dX6_ruleOfTwo_123 rfl ?_
        refine y_iload_n 124 Y dX6_ruleOfTwo_124 rfl ?_
        refine y_iconst 125 Y dX6_ruleOfTwo_125 rfl ?_
        refine y_call 126 Y (as := [mi l3, mi 1]) [] dX6_ruleOfTwo_126 rfl rfl rfl rfl rfl h (fun r S1 hq hI hr => ?_)
        obtain ⟨v2, rfl, h⟩ := Qi_ok hq
        replace h := h hI (mokI (hr _ rfl))
        clear hq hr
        refine y_if 129 141 Y dX6_ruleOfTwo_129 rfl rfl (fun c => ?_) (fun c => ?_)
        · replace h := h.1 c
          obtain ⟨n1, hn, h⟩ := h
          exact Wk 141 _ [some mt, some (mi l1), some (mi l2), some (mi l3), some (mi l4), none, none] _ _ ⟨rfl, ⟨rfl, ⟨rfl, ⟨rfl, ⟨rfl, trivial⟩⟩⟩⟩⟩ (hIc n1 _ _ _ _ hn (Or.inr (Or.inr (Or.inr (Or.inr (Or.inr (Or.inl (⟨rfl, _, _, _, _, rfl, rfl, h⟩))))))))
        · replace h := h.2 c
          refine y_aload_n 132 Y dX6_ruleOfTwo_132 rfl ?_
          refine y_iload_n 133 Y dX6_ruleOfTwo_133 rfl ?_
          refine y_iload 134 Y dX6_ruleOfTwo_134 rfl ?_
          refine y_call 136 Y (as := [mi l1, mi l4]) [] dX6_ruleOfTwo_136 rfl rfl rfl rfl rfl h (fun r S3 hq hI _ => ?_)
          obtain ⟨rfl, h⟩ := Qv_ok hq
          replace h := h hI
          clear hq
          refine y_iconst 139 Y dX6_ruleOfTwo_139 rfl ?_
          exact y_iret 140 Y dX6_ruleOfTwo_140 rfl h
    · have h := h141 n l1 l2 l3 l4 T hS (hL 1 _ rfl) (hL 2 _ rfl) (hL 3 _ rfl) (hL 4 _ rfl) hi
      clear hL hi h52 h55 h91 h100 h118 h141 h156 h174 h198 h206 h216 h243 h260
      refine y_iload_n 141 Y dX6_ruleOfTwo_141 rfl ?_
      refine y_iconst 142 Y dX6_ruleOfTwo_142 rfl ?_
      refine y_icmp 143 156 Y dX6_ruleOfTwo_143 rfl rfl (fun c => ?_) (fun c => ?_)
      · replace h := h.1 c
        obtain ⟨n1, hn, h⟩ := h
        exact Wk 156 _ [some mt, some (mi l1), some (mi l2), some (mi l3), some (mi l4), none, none] _ _ ⟨rfl, ⟨rfl, ⟨rfl, ⟨rfl, ⟨rfl, trivial⟩⟩⟩⟩⟩ (hIc n1 _ _ _ _ hn (Or.inr (Or.inr (Or.inr (Or.inr (Or.inr (Or.inr (Or.inl (⟨rfl, _, _, _, _, rfl, rfl, h⟩)))))))))
      · replace h := h.2 c
        refine y_iload_n 146 Y dX6_ruleOfTwo_146 rfl ?_
        refine y_iconst 147 Y dX6_ruleOfTwo_147 rfl ?_
        refine y_icmp 148 156 Y dX6_ruleOfTwo_148 rfl rfl (fun c => ?_) (fun c => ?_)
        · replace h := h.1 c
          obtain ⟨n1, hn, h⟩ := h
          exact Wk 156 _ [some mt, some (mi l1), some (mi l2), some (mi l3), some (mi l4), none, none] _ _ ⟨rfl, ⟨rfl, ⟨rfl, ⟨rfl, ⟨rfl, trivial⟩⟩⟩⟩⟩ (hIc n1 _ _ _ _ hn (Or.inr (Or.inr (Or.inr (Or.inr (Or.inr (Or.inr (Or.inl (⟨rfl, _, _, _, _, rfl, rfl, h⟩)))))))))
        · replace h := h.2 c
          refine y_iload_n 151 Y dX6_ruleOfTwo_151 rfl ?_
          refine y_iconst 152 Y dX6_ruleOfTwo_152 rfl ?_
          refine y_icmp 153 174 Y dX6_ruleOfTwo_153 rfl rfl (fun c => ?_) (fun c => ?_)
          · replace h := h.1 c
            obtain ⟨n1, hn, h⟩ := h
            exact Wk 174 _ [some mt, some (mi l1), some (mi l2), some (mi l3), some (mi l4), none, none] _ _ ⟨rfl, ⟨rfl, ⟨rfl, ⟨rfl, ⟨rfl, trivial⟩⟩⟩⟩⟩ (hIc n1 _ _ _ _ hn (Or.inr (Or.inr (Or.inr (Or.inr (Or.inr (Or.inr (Or.inr (Or.inl (⟨rfl, _, _, _, _, rfl, rfl, h⟩))))))))))
          · replace h := h.2 c
            obtain ⟨n1, hn, h⟩ := h
            exact Wk 156 _ [some mt, some (mi l1), some (mi l2), some (mi l3), some (mi l4), none, none] _ _ ⟨rfl, ⟨rfl, ⟨rfl, ⟨rfl, ⟨rfl, trivial⟩⟩⟩⟩⟩ (hIc n1 _ _ _ _ hn (Or.inr (Or.inr (Or.inr (Or.inr (Or.inr (Or.inr (Or.inl (⟨rfl, _, _, _, _, rfl, rfl, h⟩)))))))))
    · have h := h156 n l1 l2 l3 l4 T hS (hL 1 _ rfl) (hL 2 _ rfl) (hL 3 _ rfl) (hL 4 _ rfl) hi
      clear hL hi h52 h55 h91 h100 h118 h141 h156 h174 h198 h206 h216 h243 h260
      refine y_aload_n 156 Y dX6_ruleOfTwo_156 rfl ?_
      refine y_iload 157 Y dX6_ruleOfTwo_157 rfl ?_
      refine y_iconst 159 Y dX6_ruleOfTwo_159 rfl ?_
      refine y_call 160 Y (as := [mi l4, mi 1]) [] dX6_ruleOfTwo_160 rfl rfl rfl rfl rfl h (fun r S1 hq hI hr => ?_)
      obtain ⟨v2, rfl, h⟩ := Qi_ok hq
      replace h := h hI (mokI (hr _ rfl))
      clear hq hr
      refine y_if 163 174 Y dX6_ruleOfTwo_163 rfl rfl (fun c => ?_) (fun c => ?_)
      · replace h := h.1 c
        obtain ⟨n1, hn, h⟩ := h
        exact Wk 174 _ [some mt, some (mi l1), some (mi l2), some (mi l3), some (mi l4), none, none] _ _ ⟨rfl, ⟨rfl, ⟨rfl, ⟨rfl, ⟨rfl, trivial⟩⟩⟩⟩⟩ (hIc n1 _ _ _ _ hn (Or.inr (Or.inr (Or.inr (Or.inr (Or.inr (Or.inr (Or.inr (Or.inl (⟨rfl, _, _, _, _, rfl, rfl, h⟩))))))))))
      · replace h := h.2 c
        refine y_aload_n 166 Y dX6_ruleOfTwo_166 rfl ?_
        refine y_iload_n 167 Y dX6_ruleOfTwo_167 rfl ?_
        refine y_iload_n 168 Y dX6_ruleOfTwo_168 rfl ?_
        refine y_call 169 Y (as := [mi l1, mi l3]) [] dX6_ruleOfTwo_169 rfl rfl rfl rfl rfl h (fun r S3 hq hI _ => ?_)
        obtain ⟨rfl, h⟩ := Qv_ok hq
        replace h := h hI
        clear hq
        refine y_iconst 172 Y dX6_ruleOfTwo_172 rfl ?_
        exact y_iret 173 Y dX6_ruleOfTwo_173 rfl h
    · have h := h174 n l1 l2 l3 l4 T hS (hL 1 _ rfl) (hL 2 _ rfl) (hL 3 _ rfl) (hL 4 _ rfl) hi
      clear hL hi h52 h55 h91 h100 h118 h141 h156 h174 h198 h206 h216 h243 h260
      refine y_iload_n 174 Y dX6_ruleOfTwo_174 rfl ?_
      refine y_iconst 175 Y dX6_ruleOfTwo_175 rfl ?_
      refine y_icmp 176 206 Y dX6_ruleOfTwo_176 rfl rfl (fun c => ?_) (fun c => ?_)
      · replace h := h.1 c
        obtain ⟨n1, hn, h⟩ := h
        exact Wk 206 _ [some mt, some (mi l1), some (mi l2), some (mi l3), some (mi l4), none, none] _ _ ⟨rfl, ⟨rfl, ⟨rfl, ⟨rfl, ⟨rfl, trivial⟩⟩⟩⟩⟩ (hIc n1 _ _ _ _ hn (Or.inr (Or.inr (Or.inr (Or.inr (Or.inr (Or.inr (Or.inr (Or.inr (Or.inr (Or.inl (⟨rfl, _, _, _, _, rfl, rfl, h⟩))))))))))))
      · replace h := h.2 c
        refine y_aload_n 179 Y dX6_ruleOfTwo_179 rfl ?_
        refine y_iload_n 180 Y dX6_ruleOfTwo_180 rfl ?_
        refine y_iconst 181 Y dX6_ruleOfTwo_181 rfl ?_
        refine y_call 182 Y (as := [mi l3, mi 0]) [] dX6_ruleOfTwo_182 rfl rfl rfl rfl rfl h (fun r S1 hq hI hr => ?_)
        obtain ⟨v2, rfl, h⟩ := Qi_ok hq
        replace h := h hI (mokI (hr _ rfl))
        clear hq hr
        refine y_if 185 198 Y dX6_ruleOfTwo_185 rfl rfl (fun c => ?_) (fun c => ?_)
        · replace h := h.1 c
          obtain ⟨n1, hn, h⟩ := h
          exact Wk 198 _ [some mt, some (mi l1), none, none, none, none, none] _ _ ⟨rfl, ⟨rfl, trivial⟩⟩ (hIc n1 _ _ _ _ hn (Or.inr (Or.inr (Or.inr (Or.inr (Or.inr (Or.inr (Or.inr (Or.inr (Or.inl (⟨rfl, _, rfl, rfl, h⟩)))))))))))
        · replace h := h.2 c
          refine y_aload_n 188 Y dX6_ruleOfTwo_188 rfl ?_
          refine y_iload 189 Y dX6_ruleOfTwo_189 rfl ?_
          refine y_iconst 191 Y dX6_ruleOfTwo_191 rfl ?_
          refine y_call 192 Y (as := [mi l4, mi 0]) [] dX6_ruleOfTwo_192 rfl rfl rfl rfl rfl h (fun r S3 hq hI hr => ?_)
          obtain ⟨v4, rfl, h⟩ := Qi_ok hq
          replace h := h hI (mokI (hr _ rfl))
          clear hq hr
          refine y_if 195 206 Y dX6_ruleOfTwo_195 rfl rfl (fun c => ?_) (fun c => ?_)
          · replace h := h.1 c
            obtain ⟨n1, hn, h⟩ := h
            exact Wk 206 _ [some mt, some (mi l1), some (mi l2), some (mi l3), some (mi l4), none, none] _ _ ⟨rfl, ⟨rfl, ⟨rfl, ⟨rfl, ⟨rfl, trivial⟩⟩⟩⟩⟩ (hIc n1 _ _ _ _ hn (Or.inr (Or.inr (Or.inr (Or.inr (Or.inr (Or.inr (Or.inr (Or.inr (Or.inr (Or.inl (⟨rfl, _, _, _, _, rfl, rfl, h⟩))))))))))))
          · replace h := h.2 c
            obtain ⟨n1, hn, h⟩ := h
            exact Wk 198 _ [some mt, some (mi l1), none, none, none, none, none] _ _ ⟨rfl, ⟨rfl, trivial⟩⟩ (hIc n1 _ _ _ _ hn (Or.inr (Or.inr (Or.inr (Or.inr (Or.inr (Or.inr (Or.inr (Or.inr (Or.inl (⟨rfl, _, rfl, rfl, h⟩)))))))))))
    · have h := h198 n l1 T hS (hL 1 _ rfl) hi
      clear hL hi h52 h55 h91 h100 h118 h141 h156 h174 h198 h206 h216 h243 h260
      refine y_aload_n 198 Y dX6_ruleOfTwo_198 rfl ?_
      refine y_iload_n 199 Y dX6_ruleOfTwo_199 rfl ?_
      refine y_iconst 200 Y dX6_ruleOfTwo_200 rfl ?_
      refine y_call 201 Y (as := [mi l1, mi 0]) [] dX6_ruleOfTwo_201 rfl rfl rfl rfl rfl h (fun r S1 hq hI _ => ?_)
      obtain ⟨rfl, h⟩ := Qv_ok hq
      replace h := h hI
      clear hq
      refine y_iconst 204 Y dX6_ruleOfTwo_204 rfl ?_
      exact y_iret 205 Y dX6_ruleOfTwo_205 rfl h
    · have h := h206 n l1 l2 l3 l4 T hS (hL 1 _ rfl) (hL 2 _ rfl) (hL 3 _ rfl) (hL 4 _ rfl) hi
      clear hL hi h52 h55 h91 h100 h118 h141 h156 h174 h198 h206 h216 h243 h260
      refine y_iload_n 206 Y dX6_ruleOfTwo_206 rfl ?_
      refine y_iconst 207 Y dX6_ruleOfTwo_207 rfl ?_
      refine y_icmp 208 216 Y dX6_ruleOfTwo_208 rfl rfl (fun c => ?_) (fun c => ?_)
      · replace h := h.1 c
        obtain ⟨n1, hn, h⟩ := h
        exact Wk 216 _ [some mt, some (mi l1), some (mi l2), some (mi l3), some (mi l4), none, none] _ _ ⟨rfl, ⟨rfl, ⟨rfl, ⟨rfl, ⟨rfl, trivial⟩⟩⟩⟩⟩ (hIc n1 _ _ _ _ hn (Or.inr (Or.inr (Or.inr (Or.inr (Or.inr (Or.inr (Or.inr (Or.inr (Or.inr (Or.inr (Or.inl (⟨rfl, _, _, _, _, rfl, rfl, h⟩)))))))))))))
      · replace h := h.2 c
        refine y_iload_n 211 Y dX6_ruleOfTwo_211 rfl ?_
        refine y_iconst 212 Y dX6_ruleOfTwo_212 rfl ?_
        refine y_icmp 213 243 Y dX6_ruleOfTwo_213 rfl rfl (fun c => ?_) (fun c => ?_)
        · replace h := h.1 c
          obtain ⟨n1, hn, h⟩ := h
          exact Wk 243 _ [some mt, some (mi l1), some (mi l2), some (mi l3), some (mi l4), none, none] _ _ ⟨rfl, ⟨rfl, ⟨rfl, ⟨rfl, ⟨rfl, trivial⟩⟩⟩⟩⟩ (hIc n1 _ _ _ _ hn (Or.inr (Or.inr (Or.inr (Or.inr (Or.inr (Or.inr (Or.inr (Or.inr (Or.inr (Or.inr (Or.inr (Or.inl (⟨rfl, _, _, _, _, rfl, rfl, h⟩))))))))))))))
        · replace h := h.2 c
          obtain ⟨n1, hn, h⟩ := h
          exact Wk 216 _ [some mt, some (mi l1), some (mi l2), some (mi l3), some (mi l4), none, none] _ _ ⟨rfl, ⟨rfl, ⟨rfl, ⟨rfl, ⟨rfl, trivial⟩⟩⟩⟩⟩ (hIc n1 _ _ _ _ hn (Or.inr (Or.inr (Or.inr (Or.inr (Or.inr (Or.inr (Or.inr (Or.inr (Or.inr (Or.inr (Or.inl (⟨rfl, _, _, _, _, rfl, rfl, h⟩)))))))))))))
    · have h := h216 n l1 l2 l3 l4 T hS (hL 1 _ rfl) (hL 2 _ rfl) (hL 3 _ rfl) (hL 4 _ rfl) hi
      clear hL hi h52 h55 h91 h100 h118 h141 h156 h174 h198 h206 h216 h243 h260
      refine y_aload_n 216 Y dX6_ruleOfTwo_216 rfl ?_
      refine y_iload_n 217 Y dX6_ruleOfTwo_217 rfl ?_
      refine y_iload 218 Y dX6_ruleOfTwo_218 rfl ?_
      refine y_call 220 Y (as := [mi l3, mi l4]) [] dX6_ruleOfTwo_220 rfl rfl rfl rfl rfl h (fun r S1 hq hI hr => ?_)
      obtain ⟨v2, rfl, h⟩ := Qi_ok hq
      replace h := h hI (mokI (hr _ rfl))
      clear hq hr
      refine y_if 223 243 Y dX6_ruleOfTwo_223 rfl rfl (fun c => ?_) (fun c => ?_)
      · replace h := h.1 c
        obtain ⟨n1, hn, h⟩ := h
        exact Wk 243 _ [some mt, some (mi l1), some (mi l2), some (mi l3), some (mi l4), none, none] _ _ ⟨rfl, ⟨rfl, ⟨rfl, ⟨rfl, ⟨rfl, trivial⟩⟩⟩⟩⟩ (hIc n1 _ _ _ _ hn (Or.inr (Or.inr (Or.inr (Or.inr (Or.inr (Or.inr (Or.inr (Or.inr (Or.inr (Or.inr (Or.inr (Or.inl (⟨rfl, _, _, _, _, rfl, rfl, h⟩))))))))))))))
      · replace h := h.2 c
        refine y_aload_n 226 Y dX6_ruleOfTwo_226 rfl ?_
        refine y_iload_n 227 Y dX6_ruleOfTwo_227 rfl ?_
        refine y_iload_n 228 Y dX6_ruleOfTwo_228 rfl ?_
        refine y_iconst 229 Y dX6_ruleOfTwo_229 rfl ?_
        refine y_icmp 230 237 Y dX6_ruleOfTwo_230 rfl rfl (fun c => ?_) (fun c => ?_)
        · replace h := h.1 c
          refine y_iconst 237 Y dX6_ruleOfTwo_237 rfl ?_
          refine y_call 238 Y (as := [mi l1, mi 0]) [] dX6_ruleOfTwo_238 rfl rfl rfl rfl rfl h (fun r S3 hq hI _ => ?_)
          obtain ⟨rfl, h⟩ := Qv_ok hq
          replace h := h hI
          clear hq
          refine y_iconst 241 Y dX6_ruleOfTwo_241 rfl ?_
          exact y_iret 242 Y dX6_ruleOfTwo_242 rfl h
        · replace h := h.2 c
          refine y_iconst 233 Y dX6_ruleOfTwo_233 rfl ?_
          refine y_goto 234 238 Y dX6_ruleOfTwo_234 rfl rfl ?_
          refine y_call 238 Y (as := [mi l1, mi 1]) [] dX6_ruleOfTwo_238 rfl rfl rfl rfl rfl h (fun r S4 hq hI _ => ?_)
          obtain ⟨rfl, h⟩ := Qv_ok hq
          replace h := h hI
          clear hq
          refine y_iconst 241 Y dX6_ruleOfTwo_241 rfl ?_
          exact y_iret 242 Y dX6_ruleOfTwo_242 rfl h
    · have h := h243 n l1 l2 l3 l4 T hS (hL 1 _ rfl) (hL 2 _ rfl) (hL 3 _ rfl) (hL 4 _ rfl) hi
      clear hL hi h52 h55 h91 h100 h118 h141 h156 h174 h198 h206 h216 h243 h260
      refine y_iload_n 243 Y dX6_ruleOfTwo_243 rfl ?_
      refine y_if 244 257 Y dX6_ruleOfTwo_244 rfl rfl (fun c => ?_) (fun c => ?_)
      · replace h := h.1 c
        refine y_iconst 257 Y dX6_ruleOfTwo_257 rfl ?_
        refine y_istore 258 Y [some mt, some (mi l1), some (mi l2), some (mi l3), some (mi l4), none, some (mi (-1))] dX6_ruleOfTwo_258 rfl rfl ?_
        obtain ⟨n1, hn, h⟩ := h
        exact Wk 260 _ [some mt, some (mi l1), none, some (mi l3), none, none, some (mi (-1))] _ _ ⟨rfl, ⟨rfl, ⟨rfl, ⟨rfl, trivial⟩⟩⟩⟩ (hIc n1 _ _ _ _ hn (Or.inr (Or.inr (Or.inr (Or.inr (Or.inr (Or.inr (Or.inr (Or.inr (Or.inr (Or.inr (Or.inr (Or.inr ((⟨rfl, _, _, _, rfl, rfl, h⟩)))))))))))))))
      · replace h := h.2 c
        refine y_aload_n 247 Y dX6_ruleOfTwo_247 rfl ?_
        refine y_iload_n 248 Y dX6_ruleOfTwo_248 rfl ?_
        refine y_iload 249 Y dX6_ruleOfTwo_249 rfl ?_
        refine y_call 251 Y (as := [mi l3, mi l4]) [] dX6_ruleOfTwo_251 rfl rfl rfl rfl rfl h (fun r S1 hq hI hr => ?_)
        obtain ⟨v2, rfl, h⟩ := Qi_ok hq
        replace h := h hI (mokI (hr _ rfl))
        clear hq hr
        refine y_goto 254 258 Y dX6_ruleOfTwo_254 rfl rfl ?_
        refine y_istore 258 Y [some mt, some (mi l1), some (mi l2), some (mi l3), some (mi l4), none, some (mi v2)] dX6_ruleOfTwo_258 rfl rfl ?_
        obtain ⟨n1, hn, h⟩ := h
        exact Wk 260 _ [some mt, some (mi l1), none, some (mi l3), none, none, some (mi v2)] _ _ ⟨rfl, ⟨rfl, ⟨rfl, ⟨rfl, trivial⟩⟩⟩⟩ (hIc n1 _ _ _ _ hn (Or.inr (Or.inr (Or.inr (Or.inr (Or.inr (Or.inr (Or.inr (Or.inr (Or.inr (Or.inr (Or.inr (Or.inr ((⟨rfl, _, _, _, rfl, rfl, h⟩)))))))))))))))
    · have h := h260 n l1 l3 l6 T hS (hL 1 _ rfl) (hL 3 _ rfl) (hL 6 _ rfl) hi
      clear hL hi h52 h55 h91 h100 h118 h141 h156 h174 h198 h206 h216 h243 h260
      refine y_iload 260 Y dX6_ruleOfTwo_260 rfl ?_
      refine y_if 262 284 Y dX6_ruleOfTwo_262 rfl rfl (fun c => ?_) (fun c => ?_)
      · replace h := h.1 c
        refine y_iconst 284 Y dX6_ruleOfTwo_284 rfl ?_
        exact y_iret 285 Y dX6_ruleOfTwo_285 rfl h
      · replace h := h.2 c
        refine y_aload_n 265 Y dX6_ruleOfTwo_265 rfl ?_
        refine y_geta 266 Y 5 dX6_ruleOfTwo_266 rfl rfl ?_
        refine y_iload_n 269 Y dX6_ruleOfTwo_269 rfl ?_
        refine y_iconst 270 Y dX6_ruleOfTwo_270 rfl ?_
        obtain ⟨o1, h⟩ := h
        refine y_iadd 271 Y dX6_ruleOfTwo_271 o1 ?_
        refine y_iload 272 Y dX6_ruleOfTwo_272 rfl ?_
        obtain ⟨o2, h⟩ := h
        obtain ⟨o3, h⟩ := h
        refine y_iast 274 Y dX6_ruleOfTwo_274 rfl rfl o2 o3 ?_
        refine y_aload_n 275 Y dX6_ruleOfTwo_275 rfl ?_
        refine y_iload_n 276 Y dX6_ruleOfTwo_276 rfl ?_
        refine y_iload_n 277 Y dX6_ruleOfTwo_277 rfl ?_
        refine y_call 278 Y (as := [mi l1, mi l3]) [] dX6_ruleOfTwo_278 rfl rfl rfl rfl rfl h (fun r S4 hq hI _ => ?_)
        obtain ⟨rfl, h⟩ := Qv_ok hq
        replace h := h hI
        clear hq
        refine y_bipush 281 Y dX6_ruleOfTwo_281 rfl ?_
        exact y_iret 283 Y dX6_ruleOfTwo_283 rfl h
set_option maxHeartbeats 4000000 in
theorem of_store {g : mG} {S : mS} {a1 a2 : Int} {Qp : Option mV → mS → Prop}
    (hE : mI S → (-2147483648 ≤ a1 ∧ a1 ≤ 2147483647) → (-2147483648 ≤ a2 ∧ a2 ≤ 2147483647) → CX_lowest g [mt, mi 0, mi 1] S (Qv fun S1 => mI S1 → CX_bits g [mt, mi 0] S1 (Qi fun v3 S2 => mI S2 → (-2147483648 ≤ v3 ∧ v3 ≤ 2147483647) → ((200 < v3) → Qp (some (mi 0)) S2) ∧ (¬ (200 < v3) → CX_bits g [mt, mi 1] S2 (Qi fun v5 S4 => mI S4 → (-2147483648 ≤ v5 ∧ v5 ≤ 2147483647) → ((v5 ≤ 200) → (-2147483648 ≤ ((28 * a1) : Int) ∧ (28 * a1) ≤ 2147483647) ∧ (((S4 2 0) ≠ 0) → (0 ≤ (28 * a1)) ∧ ((28 * a1) < 104160) ∧ CX_hold g [mt, mi a1, mi 0, mi 1] (mup S4 3 (28 * a1) a2) (Qv fun S9 => mI S9 → CX_hold g [mt, mi a1, mi 1, mi 14] S9 (Qv fun S10 => mI S10 → Qp (some (mi 1)) S10))) ∧ (¬ ((S4 2 0) ≠ 0) → (0 ≤ (28 * a1)) ∧ ((28 * a1) < 104160) ∧ CX_hold g [mt, mi a1, mi 0, mi 1] (mup S4 3 (28 * a1) 0) (Qv fun S13 => mI S13 → CX_hold g [mt, mi a1, mi 1, mi 14] S13 (Qv fun S14 => mI S14 → Qp (some (mi 1)) S14)))) ∧ (¬ (v5 ≤ 200) → Qp (some (mi 0)) S4))))))
    : CX_store g [mt, mi a1, mi a2] S Qp := by
  refine cm_y ⟨by decide, rfl⟩ (by simp [mcat]) (by simp) (fun _ _ _ _ _ => False) ?_ ?_
  · intro ha hS P Y Wk hIc
    have h := hE hS (mokI (ha (mi a1) (by simp))) (mokI (ha (mi a2) (by simp)))
    clear hE ha
    refine y_aload_n 0 Y dX6_store_0 rfl ?_
    refine y_iconst 1 Y dX6_store_1 rfl ?_
    refine y_iconst 2 Y dX6_store_2 rfl ?_
    refine y_call 3 Y (as := [mi 0, mi 1]) [] dX6_store_3 rfl rfl rfl rfl rfl h (fun r S1 hq hI _ => ?_)
    obtain ⟨rfl, h⟩ := Qv_ok hq
    replace h := h hI
    clear hq
    refine y_aload_n 6 Y dX6_store_6 rfl ?_
    refine y_iconst 7 Y dX6_store_7 rfl ?_
    refine y_call 8 Y (as := [mi 0]) [] dX6_store_8 rfl rfl rfl rfl rfl h (fun r S2 hq hI hr => ?_)
    obtain ⟨v3, rfl, h⟩ := Qi_ok hq
    replace h := h hI (mokI (hr _ rfl))
    clear hq hr
    refine y_sipush 11 Y dX6_store_11 rfl ?_
    refine y_icmp 14 28 Y dX6_store_14 rfl rfl (fun c => ?_) (fun c => ?_)
    · replace h := h.1 c
      refine y_iconst 28 Y dX6_store_28 rfl ?_
      exact y_zret 29 Y dX6_store_29 rfl (by decide) h
    · replace h := h.2 c
      refine y_aload_n 17 Y dX6_store_17 rfl ?_
      refine y_iconst 18 Y dX6_store_18 rfl ?_
      refine y_call 19 Y (as := [mi 1]) [] dX6_store_19 rfl rfl rfl rfl rfl h (fun r S4 hq hI hr => ?_)
      obtain ⟨v5, rfl, h⟩ := Qi_ok hq
      replace h := h hI (mokI (hr _ rfl))
      clear hq hr
      refine y_sipush 22 Y dX6_store_22 rfl ?_
      refine y_icmp 25 30 Y dX6_store_25 rfl rfl (fun c => ?_) (fun c => ?_)
      · replace h := h.1 c
        refine y_aload_n 30 Y dX6_store_30 rfl ?_
        refine y_geta 31 Y 3 dX6_store_31 rfl rfl ?_
        refine y_bipush 34 Y dX6_store_34 rfl ?_
        refine y_iload_n 36 Y dX6_store_36 rfl ?_
        obtain ⟨o6, h⟩ := h
        refine y_imul 37 Y dX6_store_37 o6 ?_
        refine y_aload_n 38 Y dX6_store_38 rfl ?_
        refine y_geta 39 Y 2 dX6_store_39 rfl rfl ?_
        refine y_iconst 42 Y dX6_store_42 rfl ?_
        refine y_iald 43 Y dX6_store_43 rfl rfl (by decide) (by decide) (fun _ => ?_)
        refine y_if 44 51 Y dX6_store_44 rfl rfl (fun c => ?_) (fun c => ?_)
        · replace h := h.1 c
          refine y_iload_n 51 Y dX6_store_51 rfl ?_
          obtain ⟨o7, h⟩ := h
          obtain ⟨o8, h⟩ := h
          refine y_iast 52 Y dX6_store_52 rfl rfl o7 o8 ?_
          refine y_aload_n 53 Y dX6_store_53 rfl ?_
          refine y_iload_n 54 Y dX6_store_54 rfl ?_
          refine y_iconst 55 Y dX6_store_55 rfl ?_
          refine y_iconst 56 Y dX6_store_56 rfl ?_
          refine y_call 57 Y (as := [mi a1, mi 0, mi 1]) [] dX6_store_57 rfl rfl rfl rfl rfl h (fun r S9 hq hI _ => ?_)
          obtain ⟨rfl, h⟩ := Qv_ok hq
          replace h := h hI
          clear hq
          refine y_aload_n 60 Y dX6_store_60 rfl ?_
          refine y_iload_n 61 Y dX6_store_61 rfl ?_
          refine y_iconst 62 Y dX6_store_62 rfl ?_
          refine y_bipush 63 Y dX6_store_63 rfl ?_
          refine y_call 65 Y (as := [mi a1, mi 1, mi 14]) [] dX6_store_65 rfl rfl rfl rfl rfl h (fun r S10 hq hI _ => ?_)
          obtain ⟨rfl, h⟩ := Qv_ok hq
          replace h := h hI
          clear hq
          refine y_iconst 68 Y dX6_store_68 rfl ?_
          exact y_zret 69 Y dX6_store_69 rfl (by decide) h
        · replace h := h.2 c
          refine y_iconst 47 Y dX6_store_47 rfl ?_
          refine y_goto 48 52 Y dX6_store_48 rfl rfl ?_
          obtain ⟨o11, h⟩ := h
          obtain ⟨o12, h⟩ := h
          refine y_iast 52 Y dX6_store_52 rfl rfl o11 o12 ?_
          refine y_aload_n 53 Y dX6_store_53 rfl ?_
          refine y_iload_n 54 Y dX6_store_54 rfl ?_
          refine y_iconst 55 Y dX6_store_55 rfl ?_
          refine y_iconst 56 Y dX6_store_56 rfl ?_
          refine y_call 57 Y (as := [mi a1, mi 0, mi 1]) [] dX6_store_57 rfl rfl rfl rfl rfl h (fun r S13 hq hI _ => ?_)
          obtain ⟨rfl, h⟩ := Qv_ok hq
          replace h := h hI
          clear hq
          refine y_aload_n 60 Y dX6_store_60 rfl ?_
          refine y_iload_n 61 Y dX6_store_61 rfl ?_
          refine y_iconst 62 Y dX6_store_62 rfl ?_
          refine y_bipush 63 Y dX6_store_63 rfl ?_
          refine y_call 65 Y (as := [mi a1, mi 1, mi 14]) [] dX6_store_65 rfl rfl rfl rfl rfl h (fun r S14 hq hI _ => ?_)
          obtain ⟨rfl, h⟩ := Qv_ok hq
          replace h := h hI
          clear hq
          refine y_iconst 68 Y dX6_store_68 rfl ?_
          exact y_zret 69 Y dX6_store_69 rfl (by decide) h
      · replace h := h.2 c
        refine y_iconst 28 Y dX6_store_28 rfl ?_
        exact y_zret 29 Y dX6_store_29 rfl (by decide) h
  · intro n pc L st T hi
    exact hi.elim
set_option maxHeartbeats 4000000 in
theorem of_addValues {g : mG} {S : mS} {a1 a2 a3 a4 : Int} {Qp : Option mV → mS → Prop}
    (hE : mI S → (-2147483648 ≤ a1 ∧ a1 ≤ 2147483647) → (-2147483648 ≤ a2 ∧ a2 ≤ 2147483647) → (-2147483648 ≤ a3 ∧ a3 ≤ 2147483647) → (-2147483648 ≤ a4 ∧ a4 ≤ 2147483647) → CX_loadNumerator g [mt, mi 2, mi a2] S (Qv fun S1 => mI S1 → CX_loadDenominator g [mt, mi 3, mi a2] S1 (Qv fun S2 => mI S2 → CX_loadNumerator g [mt, mi 4, mi a3] S2 (Qv fun S3 => mI S3 → CX_loadDenominator g [mt, mi 5, mi a3] S3 (Qv fun S4 => mI S4 → CX_times g [mt, mi 6, mi 2, mi 5] S4 (Qv fun S5 => mI S5 → CX_times g [mt, mi 7, mi 4, mi 3] S5 (Qv fun S6 => mI S6 → CX_times g [mt, mi 1, mi 3, mi 5] S6 (Qv fun S7 => mI S7 → CX_sign_2 g [mt, mi a2] S7 (Qi fun v9 S8 => mI S8 → (-2147483648 ≤ v9 ∧ v9 ≤ 2147483647) → CX_sign_2 g [mt, mi a3] S8 (Qi fun v11 S10 => mI S10 → (-2147483648 ≤ v11 ∧ v11 ≤ 2147483647) → (-2147483648 ≤ ((a4 * v11) : Int) ∧ (a4 * v11) ≤ 2147483647) ∧ CX_signed g [mt, mi 6, mi v9, mi 7, mi (a4 * v11)] S10 (Qi fun v14 S13 => mI S13 → (-2147483648 ≤ v14 ∧ v14 ≤ 2147483647) → CX_copy g [mt, mi 0, mi 6] S13 (Qv fun S15 => mI S15 → CX_store g [mt, mi a1, mi v14] S15 (Qi fun v17 S16 => mI S16 → (-2147483648 ≤ v17 ∧ v17 ≤ 2147483647) → (v17 = 0 ∨ v17 = 1) ∧ Qp (some (mi v17)) S16)))))))))))))
    : CX_addValues g [mt, mi a1, mi a2, mi a3, mi a4] S Qp := by
  refine cm_y ⟨by decide, rfl⟩ (by simp [mcat]) (by simp) (fun _ _ _ _ _ => False) ?_ ?_
  · intro ha hS P Y Wk hIc
    have h := hE hS (mokI (ha (mi a1) (by simp))) (mokI (ha (mi a2) (by simp))) (mokI (ha (mi a3) (by simp))) (mokI (ha (mi a4) (by simp)))
    clear hE ha
    refine y_aload_n 0 Y dX6_addValues_0 rfl ?_
    refine y_iconst 1 Y dX6_addValues_1 rfl ?_
    refine y_iload_n 2 Y dX6_addValues_2 rfl ?_
    refine y_call 3 Y (as := [mi 2, mi a2]) [] dX6_addValues_3 rfl rfl rfl rfl rfl h (fun r S1 hq hI _ => ?_)
    obtain ⟨rfl, h⟩ := Qv_ok hq
    replace h := h hI
    clear hq
    refine y_aload_n 6 Y dX6_addValues_6 rfl ?_
    refine y_iconst 7 Y dX6_addValues_7 rfl ?_
    refine y_iload_n 8 Y dX6_addValues_8 rfl ?_
    refine y_call 9 Y (as := [mi 3, mi a2]) [] dX6_addValues_9 rfl rfl rfl rfl rfl h (fun r S2 hq hI _ => ?_)
    obtain ⟨rfl, h⟩ := Qv_ok hq
    replace h := h hI
    clear hq
    refine y_aload_n 12 Y dX6_addValues_12 rfl ?_
    refine y_iconst 13 Y dX6_addValues_13 rfl ?_
    refine y_iload_n 14 Y dX6_addValues_14 rfl ?_
    refine y_call 15 Y (as := [mi 4, mi a3]) [] dX6_addValues_15 rfl rfl rfl rfl rfl h (fun r S3 hq hI _ => ?_)
    obtain ⟨rfl, h⟩ := Qv_ok hq
    replace h := h hI
    clear hq
    refine y_aload_n 18 Y dX6_addValues_18 rfl ?_
    refine y_iconst 19 Y dX6_addValues_19 rfl ?_
    refine y_iload_n 20 Y dX6_addValues_20 rfl ?_
    refine y_call 21 Y (as := [mi 5, mi a3]) [] dX6_addValues_21 rfl rfl rfl rfl rfl h (fun r S4 hq hI _ => ?_)
    obtain ⟨rfl, h⟩ := Qv_ok hq
    replace h := h hI
    clear hq
    refine y_aload_n 24 Y dX6_addValues_24 rfl ?_
    refine y_bipush 25 Y dX6_addValues_25 rfl ?_
    refine y_iconst 27 Y dX6_addValues_27 rfl ?_
    refine y_iconst 28 Y dX6_addValues_28 rfl ?_
    refine y_call 29 Y (as := [mi 6, mi 2, mi 5]) [] dX6_addValues_29 rfl rfl rfl rfl rfl h (fun r S5 hq hI _ => ?_)
    obtain ⟨rfl, h⟩ := Qv_ok hq
    replace h := h hI
    clear hq
    refine y_aload_n 32 Y dX6_addValues_32 rfl ?_
    refine y_bipush 33 Y dX6_addValues_33 rfl ?_
    refine y_iconst 35 Y dX6_addValues_35 rfl ?_
    refine y_iconst 36 Y dX6_addValues_36 rfl ?_
    refine y_call 37 Y (as := [mi 7, mi 4, mi 3]) [] dX6_addValues_37 rfl rfl rfl rfl rfl h (fun r S6 hq hI _ => ?_)
    obtain ⟨rfl, h⟩ := Qv_ok hq
    replace h := h hI
    clear hq
    refine y_aload_n 40 Y dX6_addValues_40 rfl ?_
    refine y_iconst 41 Y dX6_addValues_41 rfl ?_
    refine y_iconst 42 Y dX6_addValues_42 rfl ?_
    refine y_iconst 43 Y dX6_addValues_43 rfl ?_
    refine y_call 44 Y (as := [mi 1, mi 3, mi 5]) [] dX6_addValues_44 rfl rfl rfl rfl rfl h (fun r S7 hq hI _ => ?_)
    obtain ⟨rfl, h⟩ := Qv_ok hq
    replace h := h hI
    clear hq
    refine y_aload_n 47 Y dX6_addValues_47 rfl ?_
    refine y_bipush 48 Y dX6_addValues_48 rfl ?_
    refine y_aload_n 50 Y dX6_addValues_50 rfl ?_
    refine y_iload_n 51 Y dX6_addValues_51 rfl ?_
    refine y_call 52 Y (as := [mi a2]) [mi 6, mt] dX6_addValues_52 rfl rfl rfl rfl rfl h (fun r S8 hq hI hr => ?_)
    obtain ⟨v9, rfl, h⟩ := Qi_ok hq
    replace h := h hI (mokI (hr _ rfl))
    clear hq hr
    refine y_bipush 55 Y dX6_addValues_55 rfl ?_
    refine y_iload 57 Y dX6_addValues_57 rfl ?_
    refine y_aload_n 59 Y dX6_addValues_59 rfl ?_
    refine y_iload_n 60 Y dX6_addValues_60 rfl ?_
    refine y_call 61 Y (as := [mi a3]) [mi a4, mi 7, mi v9, mi 6, mt] dX6_addValues_61 rfl rfl rfl rfl rfl h (fun r S10 hq hI hr => ?_)
    obtain ⟨v11, rfl, h⟩ := Qi_ok hq
    replace h := h hI (mokI (hr _ rfl))
    clear hq hr
    obtain ⟨o12, h⟩ := h
    refine y_imul 64 Y dX6_addValues_64 o12 ?_
    refine y_call 65 Y (as := [mi 6, mi v9, mi 7, mi (a4 * v11)]) [] dX6_addValues_65 rfl rfl rfl rfl rfl h (fun r S13 hq hI hr => ?_)
    obtain ⟨v14, rfl, h⟩ := Qi_ok hq
    replace h := h hI (mokI (hr _ rfl))
    clear hq hr
    refine y_istore 68 Y [some mt, some (mi a1), some (mi a2), some (mi a3), some (mi a4), some (mi v14)] dX6_addValues_68 rfl rfl ?_
    refine y_aload_n 70 Y dX6_addValues_70 rfl ?_
    refine y_iconst 71 Y dX6_addValues_71 rfl ?_
    refine y_bipush 72 Y dX6_addValues_72 rfl ?_
    refine y_call 74 Y (as := [mi 0, mi 6]) [] dX6_addValues_74 rfl rfl rfl rfl rfl h (fun r S15 hq hI _ => ?_)
    obtain ⟨rfl, h⟩ := Qv_ok hq
    replace h := h hI
    clear hq
    refine y_aload_n 77 Y dX6_addValues_77 rfl ?_
    refine y_iload_n 78 Y dX6_addValues_78 rfl ?_
    refine y_iload 79 Y dX6_addValues_79 rfl ?_
    refine y_call 81 Y (as := [mi a1, mi v14]) [] dX6_addValues_81 rfl rfl rfl rfl rfl h (fun r S16 hq hI hr => ?_)
    obtain ⟨v17, rfl, h⟩ := Qi_ok hq
    replace h := h hI (mokI (hr _ rfl))
    clear hq hr
    exact y_zret 84 Y dX6_addValues_84 rfl h.1 h.2
  · intro n pc L st T hi
    exact hi.elim
set_option maxHeartbeats 4000000 in
theorem of_derive {g : mG} {S : mS} {a1 a2 : Int} {Qp : Option mV → mS → Prop}
    (hE : mI S → (-2147483648 ≤ a1 ∧ a1 ≤ 2147483647) → (-2147483648 ≤ a2 ∧ a2 ≤ 2147483647) → CX_isTree g [mt, mi a1] S (Qi fun v2 S1 => mI S1 → (-2147483648 ≤ v2 ∧ v2 ≤ 2147483647) → ((v2 ≠ 0) → CX_isName g [mi a2] S1 (Qi fun v4 S3 => mI S3 → (-2147483648 ≤ v4 ∧ v4 ≤ 2147483647) → ((v4 ≠ 0) → CX_refused g [mt, mi 0, mi 0, mi 0] S3 (Qi fun v6 S5 => mI S5 → (-2147483648 ≤ v6 ∧ v6 ≤ 2147483647) → ((v6 = 0) → CX_shelf g [mi a1] S5 (Qi fun v8 S7 => mI S7 → (-2147483648 ≤ v8 ∧ v8 ≤ 2147483647) → CX_derives g [mt, mi v8, mi a2] S7 (Qi fun v10 S9 => mI S9 → (-2147483648 ≤ v10 ∧ v10 ≤ 2147483647) → ((v10 = (-1)) → CX_refused g [mt, mi 0, mi 0, mi 1] S9 (Qi fun v12 S11 => mI S11 → (-2147483648 ≤ v12 ∧ v12 ≤ 2147483647) → ((v12 = 0) → CX_shelve g [mt, mi 13740, mi v10] S11 (Qi fun v14 S13 => mI S13 → (-2147483648 ≤ v14 ∧ v14 ≤ 2147483647) → Qp (some (mi v14)) S13)) ∧ (¬ (v12 = 0) → Qp (some (mi 0)) S11))) ∧ (¬ (v10 = (-1)) → (((S9 10 0) ≠ 30) → CX_refused g [mt, mi 0, mi 0, mi 0] S9 (Qi fun v16 S15 => mI S15 → (-2147483648 ≤ v16 ∧ v16 ≤ 2147483647) → ((v16 = 0) → CX_shelve g [mt, mi 13740, mi v10] S15 (Qi fun v18 S17 => mI S17 → (-2147483648 ≤ v18 ∧ v18 ≤ 2147483647) → Qp (some (mi v18)) S17)) ∧ (¬ (v16 = 0) → Qp (some (mi 0)) S15))) ∧ (¬ ((S9 10 0) ≠ 30) → CX_refused g [mt, mi 0, mi 0, mi 1] S9 (Qi fun v20 S19 => mI S19 → (-2147483648 ≤ v20 ∧ v20 ≤ 2147483647) → ((v20 = 0) → CX_shelve g [mt, mi 13740, mi v10] S19 (Qi fun v22 S21 => mI S21 → (-2147483648 ≤ v22 ∧ v22 ≤ 2147483647) → Qp (some (mi v22)) S21)) ∧ (¬ (v20 = 0) → Qp (some (mi 0)) S19))))))) ∧ (¬ (v6 = 0) → Qp (some (mi 0)) S5))) ∧ (¬ (v4 ≠ 0) → CX_refused g [mt, mi 0, mi 1, mi 0] S3 (Qi fun v24 S23 => mI S23 → (-2147483648 ≤ v24 ∧ v24 ≤ 2147483647) → ((v24 = 0) → CX_shelf g [mi a1] S23 (Qi fun v26 S25 => mI S25 → (-2147483648 ≤ v26 ∧ v26 ≤ 2147483647) → CX_derives g [mt, mi v26, mi a2] S25 (Qi fun v28 S27 => mI S27 → (-2147483648 ≤ v28 ∧ v28 ≤ 2147483647) → ((v28 = (-1)) → CX_refused g [mt, mi 0, mi 0, mi 1] S27 (Qi fun v30 S29 => mI S29 → (-2147483648 ≤ v30 ∧ v30 ≤ 2147483647) → ((v30 = 0) → CX_shelve g [mt, mi 13740, mi v28] S29 (Qi fun v32 S31 => mI S31 → (-2147483648 ≤ v32 ∧ v32 ≤ 2147483647) → Qp (some (mi v32)) S31)) ∧ (¬ (v30 = 0) → Qp (some (mi 0)) S29))) ∧ (¬ (v28 = (-1)) → (((S27 10 0) ≠ 30) → CX_refused g [mt, mi 0, mi 0, mi 0] S27 (Qi fun v34 S33 => mI S33 → (-2147483648 ≤ v34 ∧ v34 ≤ 2147483647) → ((v34 = 0) → CX_shelve g [mt, mi 13740, mi v28] S33 (Qi fun v36 S35 => mI S35 → (-2147483648 ≤ v36 ∧ v36 ≤ 2147483647) → Qp (some (mi v36)) S35)) ∧ (¬ (v34 = 0) → Qp (some (mi 0)) S33))) ∧ (¬ ((S27 10 0) ≠ 30) → CX_refused g [mt, mi 0, mi 0, mi 1] S27 (Qi fun v38 S37 => mI S37 → (-2147483648 ≤ v38 ∧ v38 ≤ 2147483647) → ((v38 = 0) → CX_shelve g [mt, mi 13740, mi v28] S37 (Qi fun v40 S39 => mI S39 → (-2147483648 ≤ v40 ∧ v40 ≤ 2147483647) → Qp (some (mi v40)) S39)) ∧ (¬ (v38 = 0) → Qp (some (mi 0)) S37))))))) ∧ (¬ (v24 = 0) → Qp (some (mi 0)) S23))))) ∧ (¬ (v2 ≠ 0) → CX_isName g [mi a2] S1 (Qi fun v42 S41 => mI S41 → (-2147483648 ≤ v42 ∧ v42 ≤ 2147483647) → ((v42 ≠ 0) → CX_refused g [mt, mi 1, mi 0, mi 0] S41 (Qi fun v44 S43 => mI S43 → (-2147483648 ≤ v44 ∧ v44 ≤ 2147483647) → ((v44 = 0) → CX_shelf g [mi a1] S43 (Qi fun v46 S45 => mI S45 → (-2147483648 ≤ v46 ∧ v46 ≤ 2147483647) → CX_derives g [mt, mi v46, mi a2] S45 (Qi fun v48 S47 => mI S47 → (-2147483648 ≤ v48 ∧ v48 ≤ 2147483647) → ((v48 = (-1)) → CX_refused g [mt, mi 0, mi 0, mi 1] S47 (Qi fun v50 S49 => mI S49 → (-2147483648 ≤ v50 ∧ v50 ≤ 2147483647) → ((v50 = 0) → CX_shelve g [mt, mi 13740, mi v48] S49 (Qi fun v52 S51 => mI S51 → (-2147483648 ≤ v52 ∧ v52 ≤ 2147483647) → Qp (some (mi v52)) S51)) ∧ (¬ (v50 = 0) → Qp (some (mi 0)) S49))) ∧ (¬ (v48 = (-1)) → (((S47 10 0) ≠ 30) → CX_refused g [mt, mi 0, mi 0, mi 0] S47 (Qi fun v54 S53 => mI S53 → (-2147483648 ≤ v54 ∧ v54 ≤ 2147483647) → ((v54 = 0) → CX_shelve g [mt, mi 13740, mi v48] S53 (Qi fun v56 S55 => mI S55 → (-2147483648 ≤ v56 ∧ v56 ≤ 2147483647) → Qp (some (mi v56)) S55)) ∧ (¬ (v54 = 0) → Qp (some (mi 0)) S53))) ∧ (¬ ((S47 10 0) ≠ 30) → CX_refused g [mt, mi 0, mi 0, mi 1] S47 (Qi fun v58 S57 => mI S57 → (-2147483648 ≤ v58 ∧ v58 ≤ 2147483647) → ((v58 = 0) → CX_shelve g [mt, mi 13740, mi v48] S57 (Qi fun v60 S59 => mI S59 → (-2147483648 ≤ v60 ∧ v60 ≤ 2147483647) → Qp (some (mi v60)) S59)) ∧ (¬ (v58 = 0) → Qp (some (mi 0)) S57))))))) ∧ (¬ (v44 = 0) → Qp (some (mi 0)) S43))) ∧ (¬ (v42 ≠ 0) → CX_refused g [mt, mi 1, mi 1, mi 0] S41 (Qi fun v62 S61 => mI S61 → (-2147483648 ≤ v62 ∧ v62 ≤ 2147483647) → ((v62 = 0) → CX_shelf g [mi a1] S61 (Qi fun v64 S63 => mI S63 → (-2147483648 ≤ v64 ∧ v64 ≤ 2147483647) → CX_derives g [mt, mi v64, mi a2] S63 (Qi fun v66 S65 => mI S65 → (-2147483648 ≤ v66 ∧ v66 ≤ 2147483647) → ((v66 = (-1)) → CX_refused g [mt, mi 0, mi 0, mi 1] S65 (Qi fun v68 S67 => mI S67 → (-2147483648 ≤ v68 ∧ v68 ≤ 2147483647) → ((v68 = 0) → CX_shelve g [mt, mi 13740, mi v66] S67 (Qi fun v70 S69 => mI S69 → (-2147483648 ≤ v70 ∧ v70 ≤ 2147483647) → Qp (some (mi v70)) S69)) ∧ (¬ (v68 = 0) → Qp (some (mi 0)) S67))) ∧ (¬ (v66 = (-1)) → (((S65 10 0) ≠ 30) → CX_refused g [mt, mi 0, mi 0, mi 0] S65 (Qi fun v72 S71 => mI S71 → (-2147483648 ≤ v72 ∧ v72 ≤ 2147483647) → ((v72 = 0) → CX_shelve g [mt, mi 13740, mi v66] S71 (Qi fun v74 S73 => mI S73 → (-2147483648 ≤ v74 ∧ v74 ≤ 2147483647) → Qp (some (mi v74)) S73)) ∧ (¬ (v72 = 0) → Qp (some (mi 0)) S71))) ∧ (¬ ((S65 10 0) ≠ 30) → CX_refused g [mt, mi 0, mi 0, mi 1] S65 (Qi fun v76 S75 => mI S75 → (-2147483648 ≤ v76 ∧ v76 ≤ 2147483647) → ((v76 = 0) → CX_shelve g [mt, mi 13740, mi v66] S75 (Qi fun v78 S77 => mI S77 → (-2147483648 ≤ v78 ∧ v78 ≤ 2147483647) → Qp (some (mi v78)) S77)) ∧ (¬ (v76 = 0) → Qp (some (mi 0)) S75))))))) ∧ (¬ (v62 = 0) → Qp (some (mi 0)) S61)))))))
    : CX_derive g [mt, mi a1, mi a2] S Qp := by
  refine cm_y ⟨by decide, rfl⟩ (by simp [mcat]) (by simp) (fun _ _ _ _ _ => False) ?_ ?_
  · intro ha hS P Y Wk hIc
    have h := hE hS (mokI (ha (mi a1) (by simp))) (mokI (ha (mi a2) (by simp)))
    clear hE ha
    refine y_aload_n 0 Y dX6_derive_0 rfl ?_
    refine y_aload_n 1 Y dX6_derive_1 rfl ?_
    refine y_iload_n 2 Y dX6_derive_2 rfl ?_
    refine y_call 3 Y (as := [mi a1]) [mt] dX6_derive_3 rfl rfl rfl rfl rfl h (fun r S1 hq hI hr => ?_)
    obtain ⟨v2, rfl, h⟩ := Qi_ok hq
    replace h := h hI (mokI (hr _ rfl))
    clear hq hr
    refine y_if 6 13 Y dX6_derive_6 rfl rfl (fun c => ?_) (fun c => ?_)
    · replace h := h.1 c
      refine y_iconst 13 Y dX6_derive_13 rfl ?_
      refine y_iload_n 14 Y dX6_derive_14 rfl ?_
      refine y_calls 15 Y (as := [mi a2]) [mi 0, mt] dX6_derive_15 rfl rfl rfl rfl rfl h (fun r S3 hq hI hr => ?_)
      obtain ⟨v4, rfl, h⟩ := Qi_ok hq
      replace h := h hI (mokI (hr _ rfl))
      clear hq hr
      refine y_if 18 25 Y dX6_derive_18 rfl rfl (fun c => ?_) (fun c => ?_)
      · replace h := h.1 c
        refine y_iconst 25 Y dX6_derive_25 rfl ?_
        refine y_iconst 26 Y dX6_derive_26 rfl ?_
        refine y_call 27 Y (as := [mi 0, mi 0, mi 0]) [] dX6_derive_27 rfl rfl rfl rfl rfl h (fun r S5 hq hI hr => ?_)
        obtain ⟨v6, rfl, h⟩ := Qi_ok hq
        replace h := h hI (mokI (hr _ rfl))
        clear hq hr
        refine y_if 30 35 Y dX6_derive_30 rfl rfl (fun c => ?_) (fun c => ?_)
        · replace h := h.1 c
          refine y_aload_n 35 Y dX6_derive_35 rfl ?_
          refine y_iload_n 36 Y dX6_derive_36 rfl ?_
          refine y_calls 37 Y (as := [mi a1]) [mt] dX6_derive_37 rfl rfl rfl rfl rfl h (fun r S7 hq hI hr => ?_)
          obtain ⟨v8, rfl, h⟩ := Qi_ok hq
          replace h := h hI (mokI (hr _ rfl))
          clear hq hr
          refine y_iload_n 40 Y dX6_derive_40 rfl ?_
          refine y_call 41 Y (as := [mi v8, mi a2]) [] dX6_derive_41 rfl rfl rfl rfl rfl h (fun r S9 hq hI hr => ?_)
          obtain ⟨v10, rfl, h⟩ := Qi_ok hq
          replace h := h hI (mokI (hr _ rfl))
          clear hq hr
          refine y_istore_n 44 Y [some mt, some (mi a1), some (mi a2), some (mi v10)] dX6_derive_44 rfl rfl ?_
          refine y_aload_n 45 Y dX6_derive_45 rfl ?_
          refine y_iconst 46 Y dX6_derive_46 rfl ?_
          refine y_iconst 47 Y dX6_derive_47 rfl ?_
          refine y_iload_n 48 Y dX6_derive_48 rfl ?_
          refine y_iconst 49 Y dX6_derive_49 rfl ?_
          refine y_icmp 50 62 Y dX6_derive_50 rfl rfl (fun c => ?_) (fun c => ?_)
          · replace h := h.1 c
            refine y_iconst 62 Y dX6_derive_62 rfl ?_
            refine y_goto 63 67 Y dX6_derive_63 rfl rfl ?_
            refine y_call 67 Y (as := [mi 0, mi 0, mi 1]) [] dX6_derive_67 rfl rfl rfl rfl rfl h (fun r S11 hq hI hr => ?_)
            obtain ⟨v12, rfl, h⟩ := Qi_ok hq
            replace h := h hI (mokI (hr _ rfl))
            clear hq hr
            refine y_if 70 75 Y dX6_derive_70 rfl rfl (fun c => ?_) (fun c => ?_)
            · replace h := h.1 c
              refine y_aload_n 75 Y dX6_derive_75 rfl ?_
              refine y_sipush 76 Y dX6_derive_76 rfl ?_
              refine y_iload_n 79 Y dX6_derive_79 rfl ?_
              refine y_call 80 Y (as := [mi 13740, mi v10]) [] dX6_derive_80 rfl rfl rfl rfl rfl h (fun r S13 hq hI hr => ?_)
              obtain ⟨v14, rfl, h⟩ := Qi_ok hq
              replace h := h hI (mokI (hr _ rfl))
              clear hq hr
              exact y_iret 83 Y dX6_derive_83 rfl h
            · replace h := h.2 c
              refine y_iconst 73 Y dX6_derive_73 rfl ?_
              exact y_iret 74 Y dX6_derive_74 rfl h
          · replace h := h.2 c
            refine y_aload_n 53 Y dX6_derive_53 rfl ?_
            refine y_getf 54 Y 10 dX6_derive_54 rfl rfl (fun _ => ?_)
            refine y_bipush 57 Y dX6_derive_57 rfl ?_
            refine y_icmp 59 66 Y dX6_derive_59 rfl rfl (fun c => ?_) (fun c => ?_)
            · replace h := h.1 c
              refine y_iconst 66 Y dX6_derive_66 rfl ?_
              refine y_call 67 Y (as := [mi 0, mi 0, mi 0]) [] dX6_derive_67 rfl rfl rfl rfl rfl h (fun r S15 hq hI hr => ?_)
              obtain ⟨v16, rfl, h⟩ := Qi_ok hq
              replace h := h hI (mokI (hr _ rfl))
              clear hq hr
              refine y_if 70 75 Y dX6_derive_70 rfl rfl (fun c => ?_) (fun c => ?_)
              · replace h := h.1 c
                refine y_aload_n 75 Y dX6_derive_75 rfl ?_
                refine y_sipush 76 Y dX6_derive_76 rfl ?_
                refine y_iload_n 79 Y dX6_derive_79 rfl ?_
                refine y_call 80 Y (as := [mi 13740, mi v10]) [] dX6_derive_80 rfl rfl rfl rfl rfl h (fun r S17 hq hI hr => ?_)
                obtain ⟨v18, rfl, h⟩ := Qi_ok hq
                replace h := h hI (mokI (hr _ rfl))
                clear hq hr
                exact y_iret 83 Y dX6_derive_83 rfl h
              · replace h := h.2 c
                refine y_iconst 73 Y dX6_derive_73 rfl ?_
                exact y_iret 74 Y dX6_derive_74 rfl h
            · replace h := h.2 c
              refine y_iconst 62 Y dX6_derive_62 rfl ?_
              refine y_goto 63 67 Y dX6_derive_63 rfl rfl ?_
              refine y_call 67 Y (as := [mi 0, mi 0, mi 1]) [] dX6_derive_67 rfl rfl rfl rfl rfl h (fun r S19 hq hI hr => ?_)
              obtain ⟨v20, rfl, h⟩ := Qi_ok hq
              replace h := h hI (mokI (hr _ rfl))
              clear hq hr
              refine y_if 70 75 Y dX6_derive_70 rfl rfl (fun c => ?_) (fun c => ?_)
              · replace h := h.1 c
                refine y_aload_n 75 Y dX6_derive_75 rfl ?_
                refine y_sipush 76 Y dX6_derive_76 rfl ?_
                refine y_iload_n 79 Y dX6_derive_79 rfl ?_
                refine y_call 80 Y (as := [mi 13740, mi v10]) [] dX6_derive_80 rfl rfl rfl rfl rfl h (fun r S21 hq hI hr => ?_)
                obtain ⟨v22, rfl, h⟩ := Qi_ok hq
                replace h := h hI (mokI (hr _ rfl))
                clear hq hr
                exact y_iret 83 Y dX6_derive_83 rfl h
              · replace h := h.2 c
                refine y_iconst 73 Y dX6_derive_73 rfl ?_
                exact y_iret 74 Y dX6_derive_74 rfl h
        · replace h := h.2 c
          refine y_iconst 33 Y dX6_derive_33 rfl ?_
          exact y_iret 34 Y dX6_derive_34 rfl h
      · replace h := h.2 c
        refine y_iconst 21 Y dX6_derive_21 rfl ?_
        refine y_goto 22 26 Y dX6_derive_22 rfl rfl ?_
        refine y_iconst 26 Y dX6_derive_26 rfl ?_
        refine y_call 27 Y (as := [mi 0, mi 1, mi 0]) [] dX6_derive_27 rfl rfl rfl rfl rfl h (fun r S23 hq hI hr => ?_)
        obtain ⟨v24, rfl, h⟩ := Qi_ok hq
        replace h := h hI (mokI (hr _ rfl))
        clear hq hr
        refine y_if 30 35 Y dX6_derive_30 rfl rfl (fun c => ?_) (fun c => ?_)
        · replace h := h.1 c
          refine y_aload_n 35 Y dX6_derive_35 rfl ?_
          refine y_iload_n 36 Y dX6_derive_36 rfl ?_
          refine y_calls 37 Y (as := [mi a1]) [mt] dX6_derive_37 rfl rfl rfl rfl rfl h (fun r S25 hq hI hr => ?_)
          obtain ⟨v26, rfl, h⟩ := Qi_ok hq
          replace h := h hI (mokI (hr _ rfl))
          clear hq hr
          refine y_iload_n 40 Y dX6_derive_40 rfl ?_
          refine y_call 41 Y (as := [mi v26, mi a2]) [] dX6_derive_41 rfl rfl rfl rfl rfl h (fun r S27 hq hI hr => ?_)
          obtain ⟨v28, rfl, h⟩ := Qi_ok hq
          replace h := h hI (mokI (hr _ rfl))
          clear hq hr
          refine y_istore_n 44 Y [some mt, some (mi a1), some (mi a2), some (mi v28)] dX6_derive_44 rfl rfl ?_
          refine y_aload_n 45 Y dX6_derive_45 rfl ?_
          refine y_iconst 46 Y dX6_derive_46 rfl ?_
          refine y_iconst 47 Y dX6_derive_47 rfl ?_
          refine y_iload_n 48 Y dX6_derive_48 rfl ?_
          refine y_iconst 49 Y dX6_derive_49 rfl ?_
          refine y_icmp 50 62 Y dX6_derive_50 rfl rfl (fun c => ?_) (fun c => ?_)
          · replace h := h.1 c
            refine y_iconst 62 Y dX6_derive_62 rfl ?_
            refine y_goto 63 67 Y dX6_derive_63 rfl rfl ?_
            refine y_call 67 Y (as := [mi 0, mi 0, mi 1]) [] dX6_derive_67 rfl rfl rfl rfl rfl h (fun r S29 hq hI hr => ?_)
            obtain ⟨v30, rfl, h⟩ := Qi_ok hq
            replace h := h hI (mokI (hr _ rfl))
            clear hq hr
            refine y_if 70 75 Y dX6_derive_70 rfl rfl (fun c => ?_) (fun c => ?_)
            · replace h := h.1 c
              refine y_aload_n 75 Y dX6_derive_75 rfl ?_
              refine y_sipush 76 Y dX6_derive_76 rfl ?_
              refine y_iload_n 79 Y dX6_derive_79 rfl ?_
              refine y_call 80 Y (as := [mi 13740, mi v28]) [] dX6_derive_80 rfl rfl rfl rfl rfl h (fun r S31 hq hI hr => ?_)
              obtain ⟨v32, rfl, h⟩ := Qi_ok hq
              replace h := h hI (mokI (hr _ rfl))
              clear hq hr
              exact y_iret 83 Y dX6_derive_83 rfl h
            · replace h := h.2 c
              refine y_iconst 73 Y dX6_derive_73 rfl ?_
              exact y_iret 74 Y dX6_derive_74 rfl h
          · replace h := h.2 c
            refine y_aload_n 53 Y dX6_derive_53 rfl ?_
            refine y_getf 54 Y 10 dX6_derive_54 rfl rfl (fun _ => ?_)
            refine y_bipush 57 Y dX6_derive_57 rfl ?_
            refine y_icmp 59 66 Y dX6_derive_59 rfl rfl (fun c => ?_) (fun c => ?_)
            · replace h := h.1 c
              refine y_iconst 66 Y dX6_derive_66 rfl ?_
              refine y_call 67 Y (as := [mi 0, mi 0, mi 0]) [] dX6_derive_67 rfl rfl rfl rfl rfl h (fun r S33 hq hI hr => ?_)
              obtain ⟨v34, rfl, h⟩ := Qi_ok hq
              replace h := h hI (mokI (hr _ rfl))
              clear hq hr
              refine y_if 70 75 Y dX6_derive_70 rfl rfl (fun c => ?_) (fun c => ?_)
              · replace h := h.1 c
                refine y_aload_n 75 Y dX6_derive_75 rfl ?_
                refine y_sipush 76 Y dX6_derive_76 rfl ?_
                refine y_iload_n 79 Y dX6_derive_79 rfl ?_
                refine y_call 80 Y (as := [mi 13740, mi v28]) [] dX6_derive_80 rfl rfl rfl rfl rfl h (fun r S35 hq hI hr => ?_)
                obtain ⟨v36, rfl, h⟩ := Qi_ok hq
                replace h := h hI (mokI (hr _ rfl))
                clear hq hr
                exact y_iret 83 Y dX6_derive_83 rfl h
              · replace h := h.2 c
                refine y_iconst 73 Y dX6_derive_73 rfl ?_
                exact y_iret 74 Y dX6_derive_74 rfl h
            · replace h := h.2 c
              refine y_iconst 62 Y dX6_derive_62 rfl ?_
              refine y_goto 63 67 Y dX6_derive_63 rfl rfl ?_
              refine y_call 67 Y (as := [mi 0, mi 0, mi 1]) [] dX6_derive_67 rfl rfl rfl rfl rfl h (fun r S37 hq hI hr => ?_)
              obtain ⟨v38, rfl, h⟩ := Qi_ok hq
              replace h := h hI (mokI (hr _ rfl))
              clear hq hr
              refine y_if 70 75 Y dX6_derive_70 rfl rfl (fun c => ?_) (fun c => ?_)
              · replace h := h.1 c
                refine y_aload_n 75 Y dX6_derive_75 rfl ?_
                refine y_sipush 76 Y dX6_derive_76 rfl ?_
                refine y_iload_n 79 Y dX6_derive_79 rfl ?_
                refine y_call 80 Y (as := [mi 13740, mi v28]) [] dX6_derive_80 rfl rfl rfl rfl rfl h (fun r S39 hq hI hr => ?_)
                obtain ⟨v40, rfl, h⟩ := Qi_ok hq
                replace h := h hI (mokI (hr _ rfl))
                clear hq hr
                exact y_iret 83 Y dX6_derive_83 rfl h
              · replace h := h.2 c
                refine y_iconst 73 Y dX6_derive_73 rfl ?_
                exact y_iret 74 Y dX6_derive_74 rfl h
        · replace h := h.2 c
          refine y_iconst 33 Y dX6_derive_33 rfl ?_
          exact y_iret 34 Y dX6_derive_34 rfl h
    · replace h := h.2 c
      refine y_iconst 9 Y dX6_derive_9 rfl ?_
      refine y_goto 10 14 Y dX6_derive_10 rfl rfl ?_
      refine y_iload_n 14 Y dX6_derive_14 rfl ?_
      refine y_calls 15 Y (as := [mi a2]) [mi 1, mt] dX6_derive_15 rfl rfl rfl rfl rfl h (fun r S41 hq hI hr => ?_)
      obtain ⟨v42, rfl, h⟩ := Qi_ok hq
      replace h := h hI (mokI (hr _ rfl))
      clear hq hr
      refine y_if 18 25 Y dX6_derive_18 rfl rfl (fun c => ?_) (fun c => ?_)
      · replace h := h.1 c
        refine y_iconst 25 Y dX6_derive_25 rfl ?_
        refine y_iconst 26 Y dX6_derive_26 rfl ?_
        refine y_call 27 Y (as := [mi 1, mi 0, mi 0]) [] dX6_derive_27 rfl rfl rfl rfl rfl h (fun r S43 hq hI hr => ?_)
        obtain ⟨v44, rfl, h⟩ := Qi_ok hq
        replace h := h hI (mokI (hr _ rfl))
        clear hq hr
        refine y_if 30 35 Y dX6_derive_30 rfl rfl (fun c => ?_) (fun c => ?_)
        · replace h := h.1 c
          refine y_aload_n 35 Y dX6_derive_35 rfl ?_
          refine y_iload_n 36 Y dX6_derive_36 rfl ?_
          refine y_calls 37 Y (as := [mi a1]) [mt] dX6_derive_37 rfl rfl rfl rfl rfl h (fun r S45 hq hI hr => ?_)
          obtain ⟨v46, rfl, h⟩ := Qi_ok hq
          replace h := h hI (mokI (hr _ rfl))
          clear hq hr
          refine y_iload_n 40 Y dX6_derive_40 rfl ?_
          refine y_call 41 Y (as := [mi v46, mi a2]) [] dX6_derive_41 rfl rfl rfl rfl rfl h (fun r S47 hq hI hr => ?_)
          obtain ⟨v48, rfl, h⟩ := Qi_ok hq
          replace h := h hI (mokI (hr _ rfl))
          clear hq hr
          refine y_istore_n 44 Y [some mt, some (mi a1), some (mi a2), some (mi v48)] dX6_derive_44 rfl rfl ?_
          refine y_aload_n 45 Y dX6_derive_45 rfl ?_
          refine y_iconst 46 Y dX6_derive_46 rfl ?_
          refine y_iconst 47 Y dX6_derive_47 rfl ?_
          refine y_iload_n 48 Y dX6_derive_48 rfl ?_
          refine y_iconst 49 Y dX6_derive_49 rfl ?_
          refine y_icmp 50 62 Y dX6_derive_50 rfl rfl (fun c => ?_) (fun c => ?_)
          · replace h := h.1 c
            refine y_iconst 62 Y dX6_derive_62 rfl ?_
            refine y_goto 63 67 Y dX6_derive_63 rfl rfl ?_
            refine y_call 67 Y (as := [mi 0, mi 0, mi 1]) [] dX6_derive_67 rfl rfl rfl rfl rfl h (fun r S49 hq hI hr => ?_)
            obtain ⟨v50, rfl, h⟩ := Qi_ok hq
            replace h := h hI (mokI (hr _ rfl))
            clear hq hr
            refine y_if 70 75 Y dX6_derive_70 rfl rfl (fun c => ?_) (fun c => ?_)
            · replace h := h.1 c
              refine y_aload_n 75 Y dX6_derive_75 rfl ?_
              refine y_sipush 76 Y dX6_derive_76 rfl ?_
              refine y_iload_n 79 Y dX6_derive_79 rfl ?_
              refine y_call 80 Y (as := [mi 13740, mi v48]) [] dX6_derive_80 rfl rfl rfl rfl rfl h (fun r S51 hq hI hr => ?_)
              obtain ⟨v52, rfl, h⟩ := Qi_ok hq
              replace h := h hI (mokI (hr _ rfl))
              clear hq hr
              exact y_iret 83 Y dX6_derive_83 rfl h
            · replace h := h.2 c
              refine y_iconst 73 Y dX6_derive_73 rfl ?_
              exact y_iret 74 Y dX6_derive_74 rfl h
          · replace h := h.2 c
            refine y_aload_n 53 Y dX6_derive_53 rfl ?_
            refine y_getf 54 Y 10 dX6_derive_54 rfl rfl (fun _ => ?_)
            refine y_bipush 57 Y dX6_derive_57 rfl ?_
            refine y_icmp 59 66 Y dX6_derive_59 rfl rfl (fun c => ?_) (fun c => ?_)
            · replace h := h.1 c
              refine y_iconst 66 Y dX6_derive_66 rfl ?_
              refine y_call 67 Y (as := [mi 0, mi 0, mi 0]) [] dX6_derive_67 rfl rfl rfl rfl rfl h (fun r S53 hq hI hr => ?_)
              obtain ⟨v54, rfl, h⟩ := Qi_ok hq
              replace h := h hI (mokI (hr _ rfl))
              clear hq hr
              refine y_if 70 75 Y dX6_derive_70 rfl rfl (fun c => ?_) (fun c => ?_)
              · replace h := h.1 c
                refine y_aload_n 75 Y dX6_derive_75 rfl ?_
                refine y_sipush 76 Y dX6_derive_76 rfl ?_
                refine y_iload_n 79 Y dX6_derive_79 rfl ?_
                refine y_call 80 Y (as := [mi 13740, mi v48]) [] dX6_derive_80 rfl rfl rfl rfl rfl h (fun r S55 hq hI hr => ?_)
                obtain ⟨v56, rfl, h⟩ := Qi_ok hq
                replace h := h hI (mokI (hr _ rfl))
                clear hq hr
                exact y_iret 83 Y dX6_derive_83 rfl h
              · replace h := h.2 c
                refine y_iconst 73 Y dX6_derive_73 rfl ?_
                exact y_iret 74 Y dX6_derive_74 rfl h
            · replace h := h.2 c
              refine y_iconst 62 Y dX6_derive_62 rfl ?_
              refine y_goto 63 67 Y dX6_derive_63 rfl rfl ?_
              refine y_call 67 Y (as := [mi 0, mi 0, mi 1]) [] dX6_derive_67 rfl rfl rfl rfl rfl h (fun r S57 hq hI hr => ?_)
              obtain ⟨v58, rfl, h⟩ := Qi_ok hq
              replace h := h hI (mokI (hr _ rfl))
              clear hq hr
              refine y_if 70 75 Y dX6_derive_70 rfl rfl (fun c => ?_) (fun c => ?_)
              · replace h := h.1 c
                refine y_aload_n 75 Y dX6_derive_75 rfl ?_
                refine y_sipush 76 Y dX6_derive_76 rfl ?_
                refine y_iload_n 79 Y dX6_derive_79 rfl ?_
                refine y_call 80 Y (as := [mi 13740, mi v48]) [] dX6_derive_80 rfl rfl rfl rfl rfl h (fun r S59 hq hI hr => ?_)
                obtain ⟨v60, rfl, h⟩ := Qi_ok hq
                replace h := h hI (mokI (hr _ rfl))
                clear hq hr
                exact y_iret 83 Y dX6_derive_83 rfl h
              · replace h := h.2 c
                refine y_iconst 73 Y dX6_derive_73 rfl ?_
                exact y_iret 74 Y dX6_derive_74 rfl h
        · replace h := h.2 c
          refine y_iconst 33 Y dX6_derive_33 rfl ?_
          exact y_iret 34 Y dX6_derive_34 rfl h
      · replace h := h.2 c
        refine y_iconst 21 Y dX6_derive_21 rfl ?_
        refine y_goto 22 26 Y dX6_derive_22 rfl rfl ?_
        refine y_iconst 26 Y dX6_derive_26 rfl ?_
        refine y_call 27 Y (as := [mi 1, mi 1, mi 0]) [] dX6_derive_27 rfl rfl rfl rfl rfl h (fun r S61 hq hI hr => ?_)
        obtain ⟨v62, rfl, h⟩ := Qi_ok hq
        replace h := h hI (mokI (hr _ rfl))
        clear hq hr
        refine y_if 30 35 Y dX6_derive_30 rfl rfl (fun c => ?_) (fun c => ?_)
        · replace h := h.1 c
          refine y_aload_n 35 Y dX6_derive_35 rfl ?_
          refine y_iload_n 36 Y dX6_derive_36 rfl ?_
          refine y_calls 37 Y (as := [mi a1]) [mt] dX6_derive_37 rfl rfl rfl rfl rfl h (fun r S63 hq hI hr => ?_)
          obtain ⟨v64, rfl, h⟩ := Qi_ok hq
          replace h := h hI (mokI (hr _ rfl))
          clear hq hr
          refine y_iload_n 40 Y dX6_derive_40 rfl ?_
          refine y_call 41 Y (as := [mi v64, mi a2]) [] dX6_derive_41 rfl rfl rfl rfl rfl h (fun r S65 hq hI hr => ?_)
          obtain ⟨v66, rfl, h⟩ := Qi_ok hq
          replace h := h hI (mokI (hr _ rfl))
          clear hq hr
          refine y_istore_n 44 Y [some mt, some (mi a1), some (mi a2), some (mi v66)] dX6_derive_44 rfl rfl ?_
          refine y_aload_n 45 Y dX6_derive_45 rfl ?_
          refine y_iconst 46 Y dX6_derive_46 rfl ?_
          refine y_iconst 47 Y dX6_derive_47 rfl ?_
          refine y_iload_n 48 Y dX6_derive_48 rfl ?_
          refine y_iconst 49 Y dX6_derive_49 rfl ?_
          refine y_icmp 50 62 Y dX6_derive_50 rfl rfl (fun c => ?_) (fun c => ?_)
          · replace h := h.1 c
            refine y_iconst 62 Y dX6_derive_62 rfl ?_
            refine y_goto 63 67 Y dX6_derive_63 rfl rfl ?_
            refine y_call 67 Y (as := [mi 0, mi 0, mi 1]) [] dX6_derive_67 rfl rfl rfl rfl rfl h (fun r S67 hq hI hr => ?_)
            obtain ⟨v68, rfl, h⟩ := Qi_ok hq
            replace h := h hI (mokI (hr _ rfl))
            clear hq hr
            refine y_if 70 75 Y dX6_derive_70 rfl rfl (fun c => ?_) (fun c => ?_)
            · replace h := h.1 c
              refine y_aload_n 75 Y dX6_derive_75 rfl ?_
              refine y_sipush 76 Y dX6_derive_76 rfl ?_
              refine y_iload_n 79 Y dX6_derive_79 rfl ?_
              refine y_call 80 Y (as := [mi 13740, mi v66]) [] dX6_derive_80 rfl rfl rfl rfl rfl h (fun r S69 hq hI hr => ?_)
              obtain ⟨v70, rfl, h⟩ := Qi_ok hq
              replace h := h hI (mokI (hr _ rfl))
              clear hq hr
              exact y_iret 83 Y dX6_derive_83 rfl h
            · replace h := h.2 c
              refine y_iconst 73 Y dX6_derive_73 rfl ?_
              exact y_iret 74 Y dX6_derive_74 rfl h
          · replace h := h.2 c
            refine y_aload_n 53 Y dX6_derive_53 rfl ?_
            refine y_getf 54 Y 10 dX6_derive_54 rfl rfl (fun _ => ?_)
            refine y_bipush 57 Y dX6_derive_57 rfl ?_
            refine y_icmp 59 66 Y dX6_derive_59 rfl rfl (fun c => ?_) (fun c => ?_)
            · replace h := h.1 c
              refine y_iconst 66 Y dX6_derive_66 rfl ?_
              refine y_call 67 Y (as := [mi 0, mi 0, mi 0]) [] dX6_derive_67 rfl rfl rfl rfl rfl h (fun r S71 hq hI hr => ?_)
              obtain ⟨v72, rfl, h⟩ := Qi_ok hq
              replace h := h hI (mokI (hr _ rfl))
              clear hq hr
              refine y_if 70 75 Y dX6_derive_70 rfl rfl (fun c => ?_) (fun c => ?_)
              · replace h := h.1 c
                refine y_aload_n 75 Y dX6_derive_75 rfl ?_
                refine y_sipush 76 Y dX6_derive_76 rfl ?_
                refine y_iload_n 79 Y dX6_derive_79 rfl ?_
                refine y_call 80 Y (as := [mi 13740, mi v66]) [] dX6_derive_80 rfl rfl rfl rfl rfl h (fun r S73 hq hI hr => ?_)
                obtain ⟨v74, rfl, h⟩ := Qi_ok hq
                replace h := h hI (mokI (hr _ rfl))
                clear hq hr
                exact y_iret 83 Y dX6_derive_83 rfl h
              · replace h := h.2 c
                refine y_iconst 73 Y dX6_derive_73 rfl ?_
                exact y_iret 74 Y dX6_derive_74 rfl h
            · replace h := h.2 c
              refine y_iconst 62 Y dX6_derive_62 rfl ?_
              refine y_goto 63 67 Y dX6_derive_63 rfl rfl ?_
              refine y_call 67 Y (as := [mi 0, mi 0, mi 1]) [] dX6_derive_67 rfl rfl rfl rfl rfl h (fun r S75 hq hI hr => ?_)
              obtain ⟨v76, rfl, h⟩ := Qi_ok hq
              replace h := h hI (mokI (hr _ rfl))
              clear hq hr
              refine y_if 70 75 Y dX6_derive_70 rfl rfl (fun c => ?_) (fun c => ?_)
              · replace h := h.1 c
                refine y_aload_n 75 Y dX6_derive_75 rfl ?_
                refine y_sipush 76 Y dX6_derive_76 rfl ?_
                refine y_iload_n 79 Y dX6_derive_79 rfl ?_
                refine y_call 80 Y (as := [mi 13740, mi v66]) [] dX6_derive_80 rfl rfl rfl rfl rfl h (fun r S77 hq hI hr => ?_)
                obtain ⟨v78, rfl, h⟩ := Qi_ok hq
                replace h := h hI (mokI (hr _ rfl))
                clear hq hr
                exact y_iret 83 Y dX6_derive_83 rfl h
              · replace h := h.2 c
                refine y_iconst 73 Y dX6_derive_73 rfl ?_
                exact y_iret 74 Y dX6_derive_74 rfl h
        · replace h := h.2 c
          refine y_iconst 33 Y dX6_derive_33 rfl ?_
          exact y_iret 34 Y dX6_derive_34 rfl h
  · intro n pc L st T hi
    exact hi.elim
set_option maxHeartbeats 4000000 in
theorem of_divideValues {g : mG} {S : mS} {a1 a2 a3 : Int} {Qp : Option mV → mS → Prop}
    (hE : mI S → (-2147483648 ≤ a1 ∧ a1 ≤ 2147483647) → (-2147483648 ≤ a2 ∧ a2 ≤ 2147483647) → (-2147483648 ≤ a3 ∧ a3 ≤ 2147483647) → CX_loadNumerator g [mt, mi 2, mi a2] S (Qv fun S1 => mI S1 → CX_loadDenominator g [mt, mi 3, mi a2] S1 (Qv fun S2 => mI S2 → CX_loadNumerator g [mt, mi 4, mi a3] S2 (Qv fun S3 => mI S3 → CX_loadDenominator g [mt, mi 5, mi a3] S3 (Qv fun S4 => mI S4 → CX_times g [mt, mi 0, mi 2, mi 5] S4 (Qv fun S5 => mI S5 → CX_times g [mt, mi 1, mi 3, mi 4] S5 (Qv fun S6 => mI S6 → CX_sign_2 g [mt, mi a2] S6 (Qi fun v8 S7 => mI S7 → (-2147483648 ≤ v8 ∧ v8 ≤ 2147483647) → CX_sign_2 g [mt, mi a3] S7 (Qi fun v10 S9 => mI S9 → (-2147483648 ≤ v10 ∧ v10 ≤ 2147483647) → (-2147483648 ≤ ((v8 * v10) : Int) ∧ (v8 * v10) ≤ 2147483647) ∧ CX_store g [mt, mi a1, mi (v8 * v10)] S9 (Qi fun v13 S12 => mI S12 → (-2147483648 ≤ v13 ∧ v13 ≤ 2147483647) → (v13 = 0 ∨ v13 = 1) ∧ Qp (some (mi v13)) S12))))))))))
    : CX_divideValues g [mt, mi a1, mi a2, mi a3] S Qp := by
  refine cm_y ⟨by decide, rfl⟩ (by simp [mcat]) (by simp) (fun _ _ _ _ _ => False) ?_ ?_
  · intro ha hS P Y Wk hIc
    have h := hE hS (mokI (ha (mi a1) (by simp))) (mokI (ha (mi a2) (by simp))) (mokI (ha (mi a3) (by simp)))
    clear hE ha
    refine y_aload_n 0 Y dX6_divideValues_0 rfl ?_
    refine y_iconst 1 Y dX6_divideValues_1 rfl ?_
    refine y_iload_n 2 Y dX6_divideValues_2 rfl ?_
    refine y_call 3 Y (as := [mi 2, mi a2]) [] dX6_divideValues_3 rfl rfl rfl rfl rfl h (fun r S1 hq hI _ => ?_)
    obtain ⟨rfl, h⟩ := Qv_ok hq
    replace h := h hI
    clear hq
    refine y_aload_n 6 Y dX6_divideValues_6 rfl ?_
    refine y_iconst 7 Y dX6_divideValues_7 rfl ?_
    refine y_iload_n 8 Y dX6_divideValues_8 rfl ?_
    refine y_call 9 Y (as := [mi 3, mi a2]) [] dX6_divideValues_9 rfl rfl rfl rfl rfl h (fun r S2 hq hI _ => ?_)
    obtain ⟨rfl, h⟩ := Qv_ok hq
    replace h := h hI
    clear hq
    refine y_aload_n 12 Y dX6_divideValues_12 rfl ?_
    refine y_iconst 13 Y dX6_divideValues_13 rfl ?_
    refine y_iload_n 14 Y dX6_divideValues_14 rfl ?_
    refine y_call 15 Y (as := [mi 4, mi a3]) [] dX6_divideValues_15 rfl rfl rfl rfl rfl h (fun r S3 hq hI _ => ?_)
    obtain ⟨rfl, h⟩ := Qv_ok hq
    replace h := h hI
    clear hq
    refine y_aload_n 18 Y dX6_divideValues_18 rfl ?_
    refine y_iconst 19 Y dX6_divideValues_19 rfl ?_
    refine y_iload_n 20 Y dX6_divideValues_20 rfl ?_
    refine y_call 21 Y (as := [mi 5, mi a3]) [] dX6_divideValues_21 rfl rfl rfl rfl rfl h (fun r S4 hq hI _ => ?_)
    obtain ⟨rfl, h⟩ := Qv_ok hq
    replace h := h hI
    clear hq
    refine y_aload_n 24 Y dX6_divideValues_24 rfl ?_
    refine y_iconst 25 Y dX6_divideValues_25 rfl ?_
    refine y_iconst 26 Y dX6_divideValues_26 rfl ?_
    refine y_iconst 27 Y dX6_divideValues_27 rfl ?_
    refine y_call 28 Y (as := [mi 0, mi 2, mi 5]) [] dX6_divideValues_28 rfl rfl rfl rfl rfl h (fun r S5 hq hI _ => ?_)
    obtain ⟨rfl, h⟩ := Qv_ok hq
    replace h := h hI
    clear hq
    refine y_aload_n 31 Y dX6_divideValues_31 rfl ?_
    refine y_iconst 32 Y dX6_divideValues_32 rfl ?_
    refine y_iconst 33 Y dX6_divideValues_33 rfl ?_
    refine y_iconst 34 Y dX6_divideValues_34 rfl ?_
    refine y_call 35 Y (as := [mi 1, mi 3, mi 4]) [] dX6_divideValues_35 rfl rfl rfl rfl rfl h (fun r S6 hq hI _ => ?_)
    obtain ⟨rfl, h⟩ := Qv_ok hq
    replace h := h hI
    clear hq
    refine y_aload_n 38 Y dX6_divideValues_38 rfl ?_
    refine y_iload_n 39 Y dX6_divideValues_39 rfl ?_
    refine y_aload_n 40 Y dX6_divideValues_40 rfl ?_
    refine y_iload_n 41 Y dX6_divideValues_41 rfl ?_
    refine y_call 42 Y (as := [mi a2]) [mi a1, mt] dX6_divideValues_42 rfl rfl rfl rfl rfl h (fun r S7 hq hI hr => ?_)
    obtain ⟨v8, rfl, h⟩ := Qi_ok hq
    replace h := h hI (mokI (hr _ rfl))
    clear hq hr
    refine y_aload_n 45 Y dX6_divideValues_45 rfl ?_
    refine y_iload_n 46 Y dX6_divideValues_46 rfl ?_
    refine y_call 47 Y (as := [mi a3]) [mi v8, mi a1, mt] dX6_divideValues_47 rfl rfl rfl rfl rfl h (fun r S9 hq hI hr => ?_)
    obtain ⟨v10, rfl, h⟩ := Qi_ok hq
    replace h := h hI (mokI (hr _ rfl))
    clear hq hr
    obtain ⟨o11, h⟩ := h
    refine y_imul 50 Y dX6_divideValues_50 o11 ?_
    refine y_call 51 Y (as := [mi a1, mi (v8 * v10)]) [] dX6_divideValues_51 rfl rfl rfl rfl rfl h (fun r S12 hq hI hr => ?_)
    obtain ⟨v13, rfl, h⟩ := Qi_ok hq
    replace h := h hI (mokI (hr _ rfl))
    clear hq hr
    exact y_zret 54 Y dX6_divideValues_54 rfl h.1 h.2
  · intro n pc L st T hi
    exact hi.elim
set_option maxHeartbeats 4000000 in
theorem of_multiplyValues {g : mG} {S : mS} {a1 a2 a3 : Int} {Qp : Option mV → mS → Prop}
    (hE : mI S → (-2147483648 ≤ a1 ∧ a1 ≤ 2147483647) → (-2147483648 ≤ a2 ∧ a2 ≤ 2147483647) → (-2147483648 ≤ a3 ∧ a3 ≤ 2147483647) → CX_loadNumerator g [mt, mi 2, mi a2] S (Qv fun S1 => mI S1 → CX_loadDenominator g [mt, mi 3, mi a2] S1 (Qv fun S2 => mI S2 → CX_loadNumerator g [mt, mi 4, mi a3] S2 (Qv fun S3 => mI S3 → CX_loadDenominator g [mt, mi 5, mi a3] S3 (Qv fun S4 => mI S4 → CX_times g [mt, mi 0, mi 2, mi 4] S4 (Qv fun S5 => mI S5 → CX_times g [mt, mi 1, mi 3, mi 5] S5 (Qv fun S6 => mI S6 → CX_sign_2 g [mt, mi a2] S6 (Qi fun v8 S7 => mI S7 → (-2147483648 ≤ v8 ∧ v8 ≤ 2147483647) → CX_sign_2 g [mt, mi a3] S7 (Qi fun v10 S9 => mI S9 → (-2147483648 ≤ v10 ∧ v10 ≤ 2147483647) → (-2147483648 ≤ ((v8 * v10) : Int) ∧ (v8 * v10) ≤ 2147483647) ∧ CX_store g [mt, mi a1, mi (v8 * v10)] S9 (Qi fun v13 S12 => mI S12 → (-2147483648 ≤ v13 ∧ v13 ≤ 2147483647) → (v13 = 0 ∨ v13 = 1) ∧ Qp (some (mi v13)) S12))))))))))
    : CX_multiplyValues g [mt, mi a1, mi a2, mi a3] S Qp := by
  refine cm_y ⟨by decide, rfl⟩ (by simp [mcat]) (by simp) (fun _ _ _ _ _ => False) ?_ ?_
  · intro ha hS P Y Wk hIc
    have h := hE hS (mokI (ha (mi a1) (by simp))) (mokI (ha (mi a2) (by simp))) (mokI (ha (mi a3) (by simp)))
    clear hE ha
    refine y_aload_n 0 Y dX6_multiplyValues_0 rfl ?_
    refine y_iconst 1 Y dX6_multiplyValues_1 rfl ?_
    refine y_iload_n 2 Y dX6_multiplyValues_2 rfl ?_
    refine y_call 3 Y (as := [mi 2, mi a2]) [] dX6_multiplyValues_3 rfl rfl rfl rfl rfl h (fun r S1 hq hI _ => ?_)
    obtain ⟨rfl, h⟩ := Qv_ok hq
    replace h := h hI
    clear hq
    refine y_aload_n 6 Y dX6_multiplyValues_6 rfl ?_
    refine y_iconst 7 Y dX6_multiplyValues_7 rfl ?_
    refine y_iload_n 8 Y dX6_multiplyValues_8 rfl ?_
    refine y_call 9 Y (as := [mi 3, mi a2]) [] dX6_multiplyValues_9 rfl rfl rfl rfl rfl h (fun r S2 hq hI _ => ?_)
    obtain ⟨rfl, h⟩ := Qv_ok hq
    replace h := h hI
    clear hq
    refine y_aload_n 12 Y dX6_multiplyValues_12 rfl ?_
    refine y_iconst 13 Y dX6_multiplyValues_13 rfl ?_
    refine y_iload_n 14 Y dX6_multiplyValues_14 rfl ?_
    refine y_call 15 Y (as := [mi 4, mi a3]) [] dX6_multiplyValues_15 rfl rfl rfl rfl rfl h (fun r S3 hq hI _ => ?_)
    obtain ⟨rfl, h⟩ := Qv_ok hq
    replace h := h hI
    clear hq
    refine y_aload_n 18 Y dX6_multiplyValues_18 rfl ?_
    refine y_iconst 19 Y dX6_multiplyValues_19 rfl ?_
    refine y_iload_n 20 Y dX6_multiplyValues_20 rfl ?_
    refine y_call 21 Y (as := [mi 5, mi a3]) [] dX6_multiplyValues_21 rfl rfl rfl rfl rfl h (fun r S4 hq hI _ => ?_)
    obtain ⟨rfl, h⟩ := Qv_ok hq
    replace h := h hI
    clear hq
    refine y_aload_n 24 Y dX6_multiplyValues_24 rfl ?_
    refine y_iconst 25 Y dX6_multiplyValues_25 rfl ?_
    refine y_iconst 26 Y dX6_multiplyValues_26 rfl ?_
    refine y_iconst 27 Y dX6_multiplyValues_27 rfl ?_
    refine y_call 28 Y (as := [mi 0, mi 2, mi 4]) [] dX6_multiplyValues_28 rfl rfl rfl rfl rfl h (fun r S5 hq hI _ => ?_)
    obtain ⟨rfl, h⟩ := Qv_ok hq
    replace h := h hI
    clear hq
    refine y_aload_n 31 Y dX6_multiplyValues_31 rfl ?_
    refine y_iconst 32 Y dX6_multiplyValues_32 rfl ?_
    refine y_iconst 33 Y dX6_multiplyValues_33 rfl ?_
    refine y_iconst 34 Y dX6_multiplyValues_34 rfl ?_
    refine y_call 35 Y (as := [mi 1, mi 3, mi 5]) [] dX6_multiplyValues_35 rfl rfl rfl rfl rfl h (fun r S6 hq hI _ => ?_)
    obtain ⟨rfl, h⟩ := Qv_ok hq
    replace h := h hI
    clear hq
    refine y_aload_n 38 Y dX6_multiplyValues_38 rfl ?_
    refine y_iload_n 39 Y dX6_multiplyValues_39 rfl ?_
    refine y_aload_n 40 Y dX6_multiplyValues_40 rfl ?_
    refine y_iload_n 41 Y dX6_multiplyValues_41 rfl ?_
    refine y_call 42 Y (as := [mi a2]) [mi a1, mt] dX6_multiplyValues_42 rfl rfl rfl rfl rfl h (fun r S7 hq hI hr => ?_)
    obtain ⟨v8, rfl, h⟩ := Qi_ok hq
    replace h := h hI (mokI (hr _ rfl))
    clear hq hr
    refine y_aload_n 45 Y dX6_multiplyValues_45 rfl ?_
    refine y_iload_n 46 Y dX6_multiplyValues_46 rfl ?_
    refine y_call 47 Y (as := [mi a3]) [mi v8, mi a1, mt] dX6_multiplyValues_47 rfl rfl rfl rfl rfl h (fun r S9 hq hI hr => ?_)
    obtain ⟨v10, rfl, h⟩ := Qi_ok hq
    replace h := h hI (mokI (hr _ rfl))
    clear hq hr
    obtain ⟨o11, h⟩ := h
    refine y_imul 50 Y dX6_multiplyValues_50 o11 ?_
    refine y_call 51 Y (as := [mi a1, mi (v8 * v10)]) [] dX6_multiplyValues_51 rfl rfl rfl rfl rfl h (fun r S12 hq hI hr => ?_)
    obtain ⟨v13, rfl, h⟩ := Qi_ok hq
    replace h := h hI (mokI (hr _ rfl))
    clear hq hr
    exact y_zret 54 Y dX6_multiplyValues_54 rfl h.1 h.2
  · intro n pc L st T hi
    exact hi.elim
set_option maxHeartbeats 4000000 in
theorem of_parse {g : mG} {S : mS}  {Qp : Option mV → mS → Prop} (I23 : Nat → Int → Int → mS → Prop)
    (hE : mI S → CX_nextWord g [mt, mi (-1)] (mup (mup (mup S 33 0 0) 36 0 0) 40 0 0) (Qi fun v2 S1 => mI S1 → (-2147483648 ≤ v2 ∧ v2 ≤ 2147483647) → (∃ n1, I23 n1 1 v2 S1)))
    (h23 : ∀ (n : Nat) (l1 l2 : Int) (T : mS), mI T → (-2147483648 ≤ l1 ∧ l1 ≤ 2147483647) → (-2147483648 ≤ l2 ∧ l2 ≤ 2147483647) → I23 n l1 l2 T → (((T 25 0) ≤ l2) → ((l1 = 0) → CX_reduce g [mt, mi 0] T (Qv fun S1 => mI S1 → (((S1 40 0) ≤ 0) → Qp (some (mi (-1))) S1) ∧ (¬ ((S1 40 0) ≤ 0) → Qp (some (mi (S1 25 0))) S1))) ∧ (¬ (l1 = 0) → Qp (some (mi (T 25 0))) T)) ∧ (¬ ((T 25 0) ≤ l2) → ((l1 = 0) → CX_operator g [mt, mi l2] T (Qi fun v3 S2 => mI S2 → (-2147483648 ≤ v3 ∧ v3 ≤ 2147483647) → ((v3 ≠ 0) → (0 ≤ l2) ∧ (l2 < 1000) ∧ (((S2 20 l2) = 5) → CX_nextWord g [mt, mi l2] S2 (Qi fun v7 S6 => mI S6 → (-2147483648 ≤ v7 ∧ v7 ≤ 2147483647) → (∃ n1, n1 < n ∧ I23 n1 1 v7 S6))) ∧ (¬ ((S2 20 l2) = 5) → (((S2 20 l2) ≠ 2) → CX_nextWord g [mt, mi l2] S2 (Qi fun v9 S8 => mI S8 → (-2147483648 ≤ v9 ∧ v9 ≤ 2147483647) → (∃ n1, n1 < n ∧ I23 n1 0 v9 S8))) ∧ (¬ ((S2 20 l2) ≠ 2) → CX_rankOf g [mt, mi (S2 21 l2), mi 2] S2 (Qi fun v11 S10 => mI S10 → (-2147483648 ≤ v11 ∧ v11 ≤ 2147483647) → ((v11 ≤ 0) → CX_nextWord g [mt, mi l2] S10 (Qi fun v13 S12 => mI S12 → (-2147483648 ≤ v13 ∧ v13 ≤ 2147483647) → (∃ n1, n1 < n ∧ I23 n1 0 v13 S12))) ∧ (¬ (v11 ≤ 0) → CX_nextWord g [mt, mi l2] S10 (Qi fun v15 S14 => mI S14 → (-2147483648 ≤ v15 ∧ v15 ≤ 2147483647) → (∃ n1, n1 < n ∧ I23 n1 1 v15 S14))))))) ∧ (¬ (v3 ≠ 0) → Qp (some (mi l2)) S2))) ∧ (¬ (l1 = 0) → CX_operand g [mt, mi l2] T (Qi fun v17 S16 => mI S16 → (-2147483648 ≤ v17 ∧ v17 ≤ 2147483647) → ((v17 ≠ 0) → (0 ≤ l2) ∧ (l2 < 1000) ∧ (((S16 20 l2) ≠ 1) → (((S16 20 l2) = 3) → CX_nextWord g [mt, mi l2] S16 (Qi fun v21 S20 => mI S20 → (-2147483648 ≤ v21 ∧ v21 ≤ 2147483647) → (∃ n1, n1 < n ∧ I23 n1 1 v21 S20))) ∧ (¬ ((S16 20 l2) = 3) → (((S16 20 l2) ≠ 2) → CX_nextWord g [mt, mi l2] S16 (Qi fun v23 S22 => mI S22 → (-2147483648 ≤ v23 ∧ v23 ≤ 2147483647) → (∃ n1, n1 < n ∧ I23 n1 0 v23 S22))) ∧ (¬ ((S16 20 l2) ≠ 2) → CX_nextWord g [mt, mi l2] S16 (Qi fun v25 S24 => mI S24 → (-2147483648 ≤ v25 ∧ v25 ≤ 2147483647) → (∃ n1, n1 < n ∧ I23 n1 1 v25 S24))))) ∧ (¬ ((S16 20 l2) ≠ 1) → CX_opensCall g [mt, mi l2] S16 (Qi fun v27 S26 => mI S26 → (-2147483648 ≤ v27 ∧ v27 ≤ 2147483647) → ((v27 = 0) → (((S26 20 l2) = 3) → CX_nextWord g [mt, mi l2] S26 (Qi fun v29 S28 => mI S28 → (-2147483648 ≤ v29 ∧ v29 ≤ 2147483647) → (∃ n1, n1 < n ∧ I23 n1 1 v29 S28))) ∧ (¬ ((S26 20 l2) = 3) → (((S26 20 l2) ≠ 2) → CX_nextWord g [mt, mi l2] S26 (Qi fun v31 S30 => mI S30 → (-2147483648 ≤ v31 ∧ v31 ≤ 2147483647) → (∃ n1, n1 < n ∧ I23 n1 0 v31 S30))) ∧ (¬ ((S26 20 l2) ≠ 2) → CX_nextWord g [mt, mi l2] S26 (Qi fun v33 S32 => mI S32 → (-2147483648 ≤ v33 ∧ v33 ≤ 2147483647) → (∃ n1, n1 < n ∧ I23 n1 1 v33 S32))))) ∧ (¬ (v27 = 0) → CX_nextWord g [mt, mi l2] S26 (Qi fun v35 S34 => mI S34 → (-2147483648 ≤ v35 ∧ v35 ≤ 2147483647) → CX_nextWord g [mt, mi v35] S34 (Qi fun v37 S36 => mI S36 → (-2147483648 ≤ v37 ∧ v37 ≤ 2147483647) → (∃ n1, n1 < n ∧ I23 n1 1 v37 S36))))))) ∧ (¬ (v17 ≠ 0) → Qp (some (mi l2)) S16)))))
    : CX_parse g [mt] S Qp := by
  refine cm_y ⟨by decide, rfl⟩ (by simp [mcat]) (by simp) (fun n pc L st S => (pc = 23 ∧ ∃ (l1 : Int) (l2 : Int), L = [some mt, some (mi l1), some (mi l2), none] ∧ st = [] ∧ I23 n l1 l2 S)) ?_ ?_
  · intro ha hS P Y Wk hIc
    have h := hE hS
    clear hE ha h23
    refine y_aload_n 0 Y dX6_parse_0 rfl ?_
    refine y_iconst 1 Y dX6_parse_1 rfl ?_
    refine y_putf 2 Y 33 dX6_parse_2 rfl rfl (fun q => absurd q (by decide)) ?_
    refine y_aload_n 5 Y dX6_parse_5 rfl ?_
    refine y_iconst 6 Y dX6_parse_6 rfl ?_
    refine y_putf 7 Y 36 dX6_parse_7 rfl rfl (fun q => absurd q (by decide)) ?_
    refine y_aload_n 10 Y dX6_parse_10 rfl ?_
    refine y_iconst 11 Y dX6_parse_11 rfl ?_
    refine y_putf 12 Y 40 dX6_parse_12 rfl rfl (fun q => absurd q (by decide)) ?_
    refine y_iconst 15 Y dX6_parse_15 rfl ?_
    refine y_istore_n 16 Y [some mt, some (mi 1), none, none] dX6_parse_16 rfl rfl ?_
    refine y_aload_n 17 Y dX6_parse_17 rfl ?_
    refine y_iconst 18 Y dX6_parse_18 rfl ?_
    refine y_call 19 Y (as := [mi (-1)]) [] dX6_parse_19 rfl rfl rfl rfl rfl h (fun r S1 hq hI hr => ?_)
    obtain ⟨v2, rfl, h⟩ := Qi_ok hq
    replace h := h hI (mokI (hr _ rfl))
    clear hq hr
    refine y_istore_n 22 Y [some mt, some (mi 1), some (mi v2), none] dX6_parse_22 rfl rfl ?_
    obtain ⟨n1, h⟩ := h
    exact Wk 23 _ [some mt, some (mi 1), some (mi v2), none] _ _ ⟨rfl, ⟨rfl, ⟨rfl, trivial⟩⟩⟩ (hIc n1 _ _ _ _ ((⟨rfl, _, _, rfl, rfl, h⟩)))
  · intro n pc L st T hi hS hL P Y Wk hIc
    clear hE
    rcases hi with ⟨rfl, l1, l2, rfl, rfl, hi⟩
    · have h := h23 n l1 l2 T hS (hL 1 _ rfl) (hL 2 _ rfl) hi
      clear hL hi h23
      refine y_iload_n 23 Y dX6_parse_23 rfl ?_
      refine y_aload_n 24 Y dX6_parse_24 rfl ?_
      refine y_getf 25 Y 25 dX6_parse_25 rfl rfl (fun _ => ?_)
      refine y_icmp 28 175 Y dX6_parse_28 rfl rfl (fun c => ?_) (fun c => ?_)
      · replace h := h.1 c
        refine y_iload_n 175 Y dX6_parse_175 rfl ?_
        refine y_if 176 184 Y dX6_parse_176 rfl rfl (fun c => ?_) (fun c => ?_)
        · replace h := h.1 c
          refine y_aload_n 184 Y dX6_parse_184 rfl ?_
          refine y_iconst 185 Y dX6_parse_185 rfl ?_
          refine y_call 186 Y (as := [mi 0]) [] dX6_parse_186 rfl rfl rfl rfl rfl h (fun r S1 hq hI _ => ?_)
          obtain ⟨rfl, h⟩ := Qv_ok hq
          replace h := h hI
          clear hq
          refine y_aload_n 189 Y dX6_parse_189 rfl ?_
          refine y_getf 190 Y 40 dX6_parse_190 rfl rfl (fun _ => ?_)
          refine y_if 193 203 Y dX6_parse_193 rfl rfl (fun c => ?_) (fun c => ?_)
          · replace h := h.1 c
            refine y_iconst 203 Y dX6_parse_203 rfl ?_
            exact y_iret 204 Y dX6_parse_204 rfl h
          · replace h := h.2 c
            refine y_aload_n 196 Y dX6_parse_196 rfl ?_
            refine y_getf 197 Y 25 dX6_parse_197 rfl rfl (fun _ => ?_)
            refine y_goto 200 204 Y dX6_parse_200 rfl rfl ?_
            exact y_iret 204 Y dX6_parse_204 rfl h
        · replace h := h.2 c
          refine y_aload_n 179 Y dX6_parse_179 rfl ?_
          refine y_getf 180 Y 25 dX6_parse_180 rfl rfl (fun _ => ?_)
          exact y_iret 183 Y dX6_parse_183 rfl h
      · replace h := h.2 c
        refine y_iload_n 31 Y dX6_parse_31 rfl ?_
        refine y_if 32 116 Y dX6_parse_32 rfl rfl (fun c => ?_) (fun c => ?_)
        · replace h := h.1 c
          refine y_aload_n 116 Y dX6_parse_116 rfl ?_
          refine y_iload_n 117 Y dX6_parse_117 rfl ?_
          refine y_call 118 Y (as := [mi l2]) [] dX6_parse_118 rfl rfl rfl rfl rfl h (fun r S2 hq hI hr => ?_)
          obtain ⟨v3, rfl, h⟩ := Qi_ok hq
          replace h := h hI (mokI (hr _ rfl))
          clear hq hr
          refine y_if 121 126 Y dX6_parse_121 rfl rfl (fun c => ?_) (fun c => ?_)
          · replace h := h.1 c
            refine y_aload_n 126 Y dX6_parse_126 rfl ?_
            refine y_geta 127 Y 20 dX6_parse_127 rfl rfl ?_
            refine y_iload_n 130 Y dX6_parse_130 rfl ?_
            obtain ⟨o4, h⟩ := h
            obtain ⟨o5, h⟩ := h
            refine y_iald 131 Y dX6_parse_131 rfl rfl o4 o5 (fun _ => ?_)
            refine y_iconst 132 Y dX6_parse_132 rfl ?_
            refine y_icmp 133 160 Y dX6_parse_133 rfl rfl (fun c => ?_) (fun c => ?_)
            · replace h := h.1 c
              refine y_iconst 160 Y dX6_parse_160 rfl ?_
              refine y_goto 161 165 Y dX6_parse_161 rfl rfl ?_
              refine y_istore_n 165 Y [some mt, some (mi 1), some (mi l2), none] dX6_parse_165 rfl rfl ?_
              refine y_aload_n 166 Y dX6_parse_166 rfl ?_
              refine y_iload_n 167 Y dX6_parse_167 rfl ?_
              refine y_call 168 Y (as := [mi l2]) [] dX6_parse_168 rfl rfl rfl rfl rfl h (fun r S6 hq hI hr => ?_)
              obtain ⟨v7, rfl, h⟩ := Qi_ok hq
              replace h := h hI (mokI (hr _ rfl))
              clear hq hr
              refine y_istore_n 171 Y [some mt, some (mi 1), some (mi v7), none] dX6_parse_171 rfl rfl ?_
              refine y_goto 172 23 Y dX6_parse_172 rfl rfl ?_
              obtain ⟨n1, hn, h⟩ := h
              exact Wk 23 _ [some mt, some (mi 1), some (mi v7), none] _ _ ⟨rfl, ⟨rfl, ⟨rfl, trivial⟩⟩⟩ (hIc n1 _ _ _ _ hn ((⟨rfl, _, _, rfl, rfl, h⟩)))
            · replace h := h.2 c
              refine y_aload_n 136 Y dX6_parse_136 rfl ?_
              refine y_geta 137 Y 20 dX6_parse_137 rfl rfl ?_
              refine y_iload_n 140 Y dX6_parse_140 rfl ?_
              refine y_iald 141 Y dX6_parse_141 rfl rfl o4 o5 (fun _ => ?_)
              refine y_iconst 142 Y dX6_parse_142 rfl ?_
              refine y_icmp 143 164 Y dX6_parse_143 rfl rfl (fun c => ?_) (fun c => ?_)
              · replace h := h.1 c
                refine y_iconst 164 Y dX6_parse_164 rfl ?_
                refine y_istore_n 165 Y [some mt, some (mi 0), some (mi l2), none] dX6_parse_165 rfl rfl ?_
                refine y_aload_n 166 Y dX6_parse_166 rfl ?_
                refine y_iload_n 167 Y dX6_parse_167 rfl ?_
                refine y_call 168 Y (as := [mi l2]) [] dX6_parse_168 rfl rfl rfl rfl rfl h (fun r S8 hq hI hr => ?_)
                obtain ⟨v9, rfl, h⟩ := Qi_ok hq
                replace h := h hI (mokI (hr _ rfl))
                clear hq hr
                refine y_istore_n 171 Y [some mt, some (mi 0), some (mi v9), none] dX6_parse_171 rfl rfl ?_
                refine y_goto 172 23 Y dX6_parse_172 rfl rfl ?_
                obtain ⟨n1, hn, h⟩ := h
                exact Wk 23 _ [some mt, some (mi 0), some (mi v9), none] _ _ ⟨rfl, ⟨rfl, ⟨rfl, trivial⟩⟩⟩ (hIc n1 _ _ _ _ hn ((⟨rfl, _, _, rfl, rfl, h⟩)))
              · replace h := h.2 c
                refine y_aload_n 146 Y dX6_parse_146 rfl ?_
                refine y_aload_n 147 Y dX6_parse_147 rfl ?_
                refine y_geta 148 Y 21 dX6_parse_148 rfl rfl ?_
                refine y_iload_n 151 Y dX6_parse_151 rfl ?_
                refine y_iald 152 Y dX6_parse_152 rfl rfl o4 o5 (fun _ => ?_)
                refine y_iconst 153 Y dX6_parse_153 rfl ?_
                refine y_call 154 Y (as := [mi (S2 21 l2), mi 2]) [] dX6_parse_154 rfl rfl rfl rfl rfl h (fun r S10 hq hI hr => ?_)
                obtain ⟨v11, rfl, h⟩ := Qi_ok hq
                replace h := h hI (mokI (hr _ rfl))
                clear hq hr
                refine y_if 157 164 Y dX6_parse_157 rfl rfl (fun c => ?_) (fun c => ?_)
                · replace h := h.1 c
                  refine y_iconst 164 Y dX6_parse_164 rfl ?_
                  refine y_istore_n 165 Y [some mt, some (mi 0), some (mi l2), none] dX6_parse_165 rfl rfl ?_
                  refine y_aload_n 166 Y dX6_parse_166 rfl ?_
                  refine y_iload_n 167 Y dX6_parse_167 rfl ?_
                  refine y_call 168 Y (as := [mi l2]) [] dX6_parse_168 rfl rfl rfl rfl rfl h (fun r S12 hq hI hr => ?_)
                  obtain ⟨v13, rfl, h⟩ := Qi_ok hq
                  replace h := h hI (mokI (hr _ rfl))
                  clear hq hr
                  refine y_istore_n 171 Y [some mt, some (mi 0), some (mi v13), none] dX6_parse_171 rfl rfl ?_
                  refine y_goto 172 23 Y dX6_parse_172 rfl rfl ?_
                  obtain ⟨n1, hn, h⟩ := h
                  exact Wk 23 _ [some mt, some (mi 0), some (mi v13), none] _ _ ⟨rfl, ⟨rfl, ⟨rfl, trivial⟩⟩⟩ (hIc n1 _ _ _ _ hn ((⟨rfl, _, _, rfl, rfl, h⟩)))
                · replace h := h.2 c
                  refine y_iconst 160 Y dX6_parse_160 rfl ?_
                  refine y_goto 161 165 Y dX6_parse_161 rfl rfl ?_
                  refine y_istore_n 165 Y [some mt, some (mi 1), some (mi l2), none] dX6_parse_165 rfl rfl ?_
                  refine y_aload_n 166 Y dX6_parse_166 rfl ?_
                  refine y_iload_n 167 Y dX6_parse_167 rfl ?_
                  refine y_call 168 Y (as := [mi l2]) [] dX6_parse_168 rfl rfl rfl rfl rfl h (fun r S14 hq hI hr => ?_)
                  obtain ⟨v15, rfl, h⟩ := Qi_ok hq
                  replace h := h hI (mokI (hr _ rfl))
                  clear hq hr
                  refine y_istore_n 171 Y [some mt, some (mi 1), some (mi v15), none] dX6_parse_171 rfl rfl ?_
                  refine y_goto 172 23 Y dX6_parse_172 rfl rfl ?_
                  obtain ⟨n1, hn, h⟩ := h
                  exact Wk 23 _ [some mt, some (mi 1), some (mi v15), none] _ _ ⟨rfl, ⟨rfl, ⟨rfl, trivial⟩⟩⟩ (hIc n1 _ _ _ _ hn ((⟨rfl, _, _, rfl, rfl, h⟩)))
          · replace h := h.2 c
            refine y_iload_n 124 Y dX6_parse_124 rfl ?_
            exact y_iret 125 Y dX6_parse_125 rfl h
        · replace h := h.2 c
          refine y_aload_n 35 Y dX6_parse_35 rfl ?_
          refine y_iload_n 36 Y dX6_parse_36 rfl ?_
          refine y_call 37 Y (as := [mi l2]) [] dX6_parse_37 rfl rfl rfl rfl rfl h (fun r S16 hq hI hr => ?_)
          obtain ⟨v17, rfl, h⟩ := Qi_ok hq
          replace h := h hI (mokI (hr _ rfl))
          clear hq hr
          refine y_if 40 45 Y dX6_parse_40 rfl rfl (fun c => ?_) (fun c => ?_)
          · replace h := h.1 c
            refine y_aload_n 45 Y dX6_parse_45 rfl ?_
            refine y_geta 46 Y 20 dX6_parse_46 rfl rfl ?_
            refine y_iload_n 49 Y dX6_parse_49 rfl ?_
            obtain ⟨o18, h⟩ := h
            obtain ⟨o19, h⟩ := h
            refine y_iald 50 Y dX6_parse_50 rfl rfl o18 o19 (fun _ => ?_)
            refine y_iconst 51 Y dX6_parse_51 rfl ?_
            refine y_icmp 52 67 Y dX6_parse_52 rfl rfl (fun c => ?_) (fun c => ?_)
            · replace h := h.1 c
              refine y_iconst 67 Y dX6_parse_67 rfl ?_
              refine y_istore_n 68 Y [some mt, some (mi l1), some (mi l2), some (mi 0)] dX6_parse_68 rfl rfl ?_
              refine y_iload_n 69 Y dX6_parse_69 rfl ?_
              refine y_if 70 81 Y dX6_parse_70 rfl rfl (fun _ => ?_) (fun c => absurd (show (0 : Int) = 0 by decide) c)
              refine y_iload_n 81 Y dX6_parse_81 rfl ?_
              refine y_istore_n 82 Y [some mt, some (mi l1), some (mi l2), some (mi 0)] dX6_parse_82 rfl rfl ?_
              refine y_iload_n 83 Y dX6_parse_83 rfl ?_
              refine y_if 84 107 Y dX6_parse_84 rfl rfl (fun c => absurd c (show ¬ ((0 : Int) ≠ 0) by decide)) (fun _ => ?_)
              refine y_aload_n 87 Y dX6_parse_87 rfl ?_
              refine y_geta 88 Y 20 dX6_parse_88 rfl rfl ?_
              refine y_iload_n 91 Y dX6_parse_91 rfl ?_
              refine y_iald 92 Y dX6_parse_92 rfl rfl o18 o19 (fun _ => ?_)
              refine y_iconst 93 Y dX6_parse_93 rfl ?_
              refine y_icmp 94 107 Y dX6_parse_94 rfl rfl (fun c => ?_) (fun c => ?_)
              · replace h := h.1 c
                refine y_iconst 107 Y dX6_parse_107 rfl ?_
                refine y_goto 108 112 Y dX6_parse_108 rfl rfl ?_
                refine y_istore_n 112 Y [some mt, some (mi 1), some (mi l2), some (mi 0)] dX6_parse_112 rfl rfl ?_
                refine y_goto 113 166 Y dX6_parse_113 rfl rfl ?_
                refine y_aload_n 166 Y dX6_parse_166 rfl ?_
                refine y_iload_n 167 Y dX6_parse_167 rfl ?_
                refine y_call 168 Y (as := [mi l2]) [] dX6_parse_168 rfl rfl rfl rfl rfl h (fun r S20 hq hI hr => ?_)
                obtain ⟨v21, rfl, h⟩ := Qi_ok hq
                replace h := h hI (mokI (hr _ rfl))
                clear hq hr
                refine y_istore_n 171 Y [some mt, some (mi 1), some (mi v21), some (mi 0)] dX6_parse_171 rfl rfl ?_
                refine y_goto 172 23 Y dX6_parse_172 rfl rfl ?_
                obtain ⟨n1, hn, h⟩ := h
                exact Wk 23 _ [some mt, some (mi 1), some (mi v21), none] _ _ ⟨rfl, ⟨rfl, ⟨rfl, trivial⟩⟩⟩ (hIc n1 _ _ _ _ hn ((⟨rfl, _, _, rfl, rfl, h⟩)))
              · replace h := h.2 c
                refine y_aload_n 97 Y dX6_parse_97 rfl ?_
                refine y_geta 98 Y 20 dX6_parse_98 rfl rfl ?_
                refine y_iload_n 101 Y dX6_parse_101 rfl ?_
                refine y_iald 102 Y dX6_parse_102 rfl rfl o18 o19 (fun _ => ?_)
                refine y_iconst 103 Y dX6_parse_103 rfl ?_
                refine y_icmp 104 111 Y dX6_parse_104 rfl rfl (fun c => ?_) (fun c => ?_)
                · replace h := h.1 c
                  refine y_iconst 111 Y dX6_parse_111 rfl ?_
                  refine y_istore_n 112 Y [some mt, some (mi 0), some (mi l2), some (mi 0)] dX6_parse_112 rfl rfl ?_
                  refine y_goto 113 166 Y dX6_parse_113 rfl rfl ?_
                  refine y_aload_n 166 Y dX6_parse_166 rfl ?_
                  refine y_iload_n 167 Y dX6_parse_167 rfl ?_
                  refine y_call 168 Y (as := [mi l2]) [] dX6_parse_168 rfl rfl rfl rfl rfl h (fun r S22 hq hI hr => ?_)
                  obtain ⟨v23, rfl, h⟩ := Qi_ok hq
                  replace h := h hI (mokI (hr _ rfl))
                  clear hq hr
                  refine y_istore_n 171 Y [some mt, some (mi 0), some (mi v23), some (mi 0)] dX6_parse_171 rfl rfl ?_
                  refine y_goto 172 23 Y dX6_parse_172 rfl rfl ?_
                  obtain ⟨n1, hn, h⟩ := h
                  exact Wk 23 _ [some mt, some (mi 0), some (mi v23), none] _ _ ⟨rfl, ⟨rfl, ⟨rfl, trivial⟩⟩⟩ (hIc n1 _ _ _ _ hn ((⟨rfl, _, _, rfl, rfl, h⟩)))
                · replace h := h.2 c
                  refine y_iconst 107 Y dX6_parse_107 rfl ?_
                  refine y_goto 108 112 Y dX6_parse_108 rfl rfl ?_
                  refine y_istore_n 112 Y [some mt, some (mi 1), some (mi l2), some (mi 0)] dX6_parse_112 rfl rfl ?_
                  refine y_goto 113 166 Y dX6_parse_113 rfl rfl ?_
                  refine y_aload_n 166 Y dX6_parse_166 rfl ?_
                  refine y_iload_n 167 Y dX6_parse_167 rfl ?_
                  refine y_call 168 Y (as := [mi l2]) [] dX6_parse_168 rfl rfl rfl rfl rfl h (fun r S24 hq hI hr => ?_)
                  obtain ⟨v25, rfl, h⟩ := Qi_ok hq
                  replace h := h hI (mokI (hr _ rfl))
                  clear hq hr
                  refine y_istore_n 171 Y [some mt, some (mi 1), some (mi v25), some (mi 0)] dX6_parse_171 rfl rfl ?_
                  refine y_goto 172 23 Y dX6_parse_172 rfl rfl ?_
                  obtain ⟨n1, hn, h⟩ := h
                  exact Wk 23 _ [some mt, some (mi 1), some (mi v25), none] _ _ ⟨rfl, ⟨rfl, ⟨rfl, trivial⟩⟩⟩ (hIc n1 _ _ _ _ hn ((⟨rfl, _, _, rfl, rfl, h⟩)))
            · replace h := h.2 c
              refine y_aload_n 55 Y dX6_parse_55 rfl ?_
              refine y_iload_n 56 Y dX6_parse_56 rfl ?_
              refine y_call 57 Y (as := [mi l2]) [] dX6_parse_57 rfl rfl rfl rfl rfl h (fun r S26 hq hI hr => ?_)
              obtain ⟨v27, rfl, h⟩ := Qi_ok hq
              replace h := h hI (mokI (hr _ rfl))
              clear hq hr
              refine y_if 60 67 Y dX6_parse_60 rfl rfl (fun c => ?_) (fun c => ?_)
              · replace h := h.1 c
                refine y_iconst 67 Y dX6_parse_67 rfl ?_
                refine y_istore_n 68 Y [some mt, some (mi l1), some (mi l2), some (mi 0)] dX6_parse_68 rfl rfl ?_
                refine y_iload_n 69 Y dX6_parse_69 rfl ?_
                refine y_if 70 81 Y dX6_parse_70 rfl rfl (fun _ => ?_) (fun c => absurd (show (0 : Int) = 0 by decide) c)
                refine y_iload_n 81 Y dX6_parse_81 rfl ?_
                refine y_istore_n 82 Y [some mt, some (mi l1), some (mi l2), some (mi 0)] dX6_parse_82 rfl rfl ?_
                refine y_iload_n 83 Y dX6_parse_83 rfl ?_
                refine y_if 84 107 Y dX6_parse_84 rfl rfl (fun c => absurd c (show ¬ ((0 : Int) ≠ 0) by decide)) (fun _ => ?_)
                refine y_aload_n 87 Y dX6_parse_87 rfl ?_
                refine y_geta 88 Y 20 dX6_parse_88 rfl rfl ?_
                refine y_iload_n 91 Y dX6_parse_91 rfl ?_
                refine y_iald 92 Y dX6_parse_92 rfl rfl o18 o19 (fun _ => ?_)
                refine y_iconst 93 Y dX6_parse_93 rfl ?_
                refine y_icmp 94 107 Y dX6_parse_94 rfl rfl (fun c => ?_) (fun c => ?_)
                · replace h := h.1 c
                  refine y_iconst 107 Y dX6_parse_107 rfl ?_
                  refine y_goto 108 112 Y dX6_parse_108 rfl rfl ?_
                  refine y_istore_n 112 Y [some mt, some (mi 1), some (mi l2), some (mi 0)] dX6_parse_112 rfl rfl ?_
                  refine y_goto 113 166 Y dX6_parse_113 rfl rfl ?_
                  refine y_aload_n 166 Y dX6_parse_166 rfl ?_
                  refine y_iload_n 167 Y dX6_parse_167 rfl ?_
                  refine y_call 168 Y (as := [mi l2]) [] dX6_parse_168 rfl rfl rfl rfl rfl h (fun r S28 hq hI hr => ?_)
                  obtain ⟨v29, rfl, h⟩ := Qi_ok hq
                  replace h := h hI (mokI (hr _ rfl))
                  clear hq hr
                  refine y_istore_n 171 Y [some mt, some (mi 1), some (mi v29), some (mi 0)] dX6_parse_171 rfl rfl ?_
                  refine y_goto 172 23 Y dX6_parse_172 rfl rfl ?_
                  obtain ⟨n1, hn, h⟩ := h
                  exact Wk 23 _ [some mt, some (mi 1), some (mi v29), none] _ _ ⟨rfl, ⟨rfl, ⟨rfl, trivial⟩⟩⟩ (hIc n1 _ _ _ _ hn ((⟨rfl, _, _, rfl, rfl, h⟩)))
                · replace h := h.2 c
                  refine y_aload_n 97 Y dX6_parse_97 rfl ?_
                  refine y_geta 98 Y 20 dX6_parse_98 rfl rfl ?_
                  refine y_iload_n 101 Y dX6_parse_101 rfl ?_
                  refine y_iald 102 Y dX6_parse_102 rfl rfl o18 o19 (fun _ => ?_)
                  refine y_iconst 103 Y dX6_parse_103 rfl ?_
                  refine y_icmp 104 111 Y dX6_parse_104 rfl rfl (fun c => ?_) (fun c => ?_)
                  · replace h := h.1 c
                    refine y_iconst 111 Y dX6_parse_111 rfl ?_
                    refine y_istore_n 112 Y [some mt, some (mi 0), some (mi l2), some (mi 0)] dX6_parse_112 rfl rfl ?_
                    refine y_goto 113 166 Y dX6_parse_113 rfl rfl ?_
                    refine y_aload_n 166 Y dX6_parse_166 rfl ?_
                    refine y_iload_n 167 Y dX6_parse_167 rfl ?_
                    refine y_call 168 Y (as := [mi l2]) [] dX6_parse_168 rfl rfl rfl rfl rfl h (fun r S30 hq hI hr => ?_)
                    obtain ⟨v31, rfl, h⟩ := Qi_ok hq
                    replace h := h hI (mokI (hr _ rfl))
                    clear hq hr
                    refine y_istore_n 171 Y [some mt, some (mi 0), some (mi v31), some (mi 0)] dX6_parse_171 rfl rfl ?_
                    refine y_goto 172 23 Y dX6_parse_172 rfl rfl ?_
                    obtain ⟨n1, hn, h⟩ := h
                    exact Wk 23 _ [some mt, some (mi 0), some (mi v31), none] _ _ ⟨rfl, ⟨rfl, ⟨rfl, trivial⟩⟩⟩ (hIc n1 _ _ _ _ hn ((⟨rfl, _, _, rfl, rfl, h⟩)))
                  · replace h := h.2 c
                    refine y_iconst 107 Y dX6_parse_107 rfl ?_
                    refine y_goto 108 112 Y dX6_parse_108 rfl rfl ?_
                    refine y_istore_n 112 Y [some mt, some (mi 1), some (mi l2), some (mi 0)] dX6_parse_112 rfl rfl ?_
                    refine y_goto 113 166 Y dX6_parse_113 rfl rfl ?_
                    refine y_aload_n 166 Y dX6_parse_166 rfl ?_
                    refine y_iload_n 167 Y dX6_parse_167 rfl ?_
                    refine y_call 168 Y (as := [mi l2]) [] dX6_parse_168 rfl rfl rfl rfl rfl h (fun r S32 hq hI hr => ?_)
                    obtain ⟨v33, rfl, h⟩ := Qi_ok hq
                    replace h := h hI (mokI (hr _ rfl))
                    clear hq hr
                    refine y_istore_n 171 Y [some mt, some (mi 1), some (mi v33), some (mi 0)] dX6_parse_171 rfl rfl ?_
                    refine y_goto 172 23 Y dX6_parse_172 rfl rfl ?_
                    obtain ⟨n1, hn, h⟩ := h
                    exact Wk 23 _ [some mt, some (mi 1), some (mi v33), none] _ _ ⟨rfl, ⟨rfl, ⟨rfl, trivial⟩⟩⟩ (hIc n1 _ _ _ _ hn ((⟨rfl, _, _, rfl, rfl, h⟩)))
              · replace h := h.2 c
                refine y_iconst 63 Y dX6_parse_63 rfl ?_
                refine y_goto 64 68 Y dX6_parse_64 rfl rfl ?_
                refine y_istore_n 68 Y [some mt, some (mi l1), some (mi l2), some (mi 1)] dX6_parse_68 rfl rfl ?_
                refine y_iload_n 69 Y dX6_parse_69 rfl ?_
                refine y_if 70 81 Y dX6_parse_70 rfl rfl (fun c => absurd c (show ¬ ((1 : Int) = 0) by decide)) (fun _ => ?_)
                refine y_aload_n 73 Y dX6_parse_73 rfl ?_
                refine y_iload_n 74 Y dX6_parse_74 rfl ?_
                refine y_call 75 Y (as := [mi l2]) [] dX6_parse_75 rfl rfl rfl rfl rfl h (fun r S34 hq hI hr => ?_)
                obtain ⟨v35, rfl, h⟩ := Qi_ok hq
                replace h := h hI (mokI (hr _ rfl))
                clear hq hr
                refine y_goto 78 82 Y dX6_parse_78 rfl rfl ?_
                refine y_istore_n 82 Y [some mt, some (mi l1), some (mi v35), some (mi 1)] dX6_parse_82 rfl rfl ?_
                refine y_iload_n 83 Y dX6_parse_83 rfl ?_
                refine y_if 84 107 Y dX6_parse_84 rfl rfl (fun _ => ?_) (fun c => absurd (show (1 : Int) ≠ 0 by decide) c)
                refine y_iconst 107 Y dX6_parse_107 rfl ?_
                refine y_goto 108 112 Y dX6_parse_108 rfl rfl ?_
                refine y_istore_n 112 Y [some mt, some (mi 1), some (mi v35), some (mi 1)] dX6_parse_112 rfl rfl ?_
                refine y_goto 113 166 Y dX6_parse_113 rfl rfl ?_
                refine y_aload_n 166 Y dX6_parse_166 rfl ?_
                refine y_iload_n 167 Y dX6_parse_167 rfl ?_
                refine y_call 168 Y (as := [mi v35]) [] dX6_parse_168 rfl rfl rfl rfl rfl h (fun r S36 hq hI hr => ?_)
                obtain ⟨v37, rfl, h⟩ := Qi_ok hq
                replace h := h hI (mokI (hr _ rfl))
                clear hq hr
                refine y_istore_n 171 Y [some mt, some (mi 1), some (mi v37), some (mi 1)] dX6_parse_171 rfl rfl ?_
                refine y_goto 172 23 Y dX6_parse_172 rfl rfl ?_
                obtain ⟨n1, hn, h⟩ := h
                exact Wk 23 _ [some mt, some (mi 1), some (mi v37), none] _ _ ⟨rfl, ⟨rfl, ⟨rfl, trivial⟩⟩⟩ (hIc n1 _ _ _ _ hn ((⟨rfl, _, _, rfl, rfl, h⟩)))
          · replace h := h.2 c
            refine y_iload_n 43 Y dX6_parse_43 rfl ?_
            exact y_iret 44 Y dX6_parse_44 rfl h
set_option maxHeartbeats 4000000 in
theorem of_partOfQuotient {g : mG} {S : mS} {a1 a2 : Int} {Qp : Option mV → mS → Prop}
    (hE : mI S → (-2147483648 ≤ a1 ∧ a1 ≤ 2147483647) → (-2147483648 ≤ a2 ∧ a2 ≤ 2147483647) → CX_clearWide g [mt] S (Qv fun S1 => mI S1 → (-2147483648 ≤ ((a1 + 1) : Int) ∧ (a1 + 1) ≤ 2147483647) ∧ CX_addProduct g [mt, mi (a1 + 1), mi a2, mi 1] S1 (Qv fun S3 => mI S3 → (-2147483648 ≤ ((a2 + 1) : Int) ∧ (a2 + 1) ≤ 2147483647) ∧ CX_addProduct g [mt, mi a1, mi (a2 + 1), mi (-1)] S3 (Qv fun S5 => mI S5 → CX_loadNumerator g [mt, mi 2, mi a2] S5 (Qv fun S6 => mI S6 → CX_times g [mt, mi 3, mi 2, mi 2] S6 (Qv fun S7 => mI S7 → CX_times g [mt, mi 1, mi 9, mi 3] S7 (Qv fun S8 => mI S8 → CX_loadDenominator g [mt, mi 2, mi a2] S8 (Qv fun S9 => mI S9 → CX_times g [mt, mi 3, mi 2, mi 2] S9 (Qv fun S10 => mI S10 → CX_times g [mt, mi 0, mi 8, mi 3] S10 (Qv fun S11 => mI S11 → CX_store g [mt, mi 3604, mi (S11 69 0)] S11 (Qi fun v13 S12 => mI S12 → (-2147483648 ≤ v13 ∧ v13 ≤ 2147483647) → (v13 = 0 ∨ v13 = 1) ∧ Qp (some (mi v13)) S12)))))))))))
    : CX_partOfQuotient g [mt, mi a1, mi a2] S Qp := by
  refine cm_y ⟨by decide, rfl⟩ (by simp [mcat]) (by simp) (fun _ _ _ _ _ => False) ?_ ?_
  · intro ha hS P Y Wk hIc
    have h := hE hS (mokI (ha (mi a1) (by simp))) (mokI (ha (mi a2) (by simp)))
    clear hE ha
    refine y_aload_n 0 Y dX6_partOfQuotient_0 rfl ?_
    refine y_call 1 Y (as := []) [] dX6_partOfQuotient_1 rfl rfl rfl rfl rfl h (fun r S1 hq hI _ => ?_)
    obtain ⟨rfl, h⟩ := Qv_ok hq
    replace h := h hI
    clear hq
    refine y_aload_n 4 Y dX6_partOfQuotient_4 rfl ?_
    refine y_iload_n 5 Y dX6_partOfQuotient_5 rfl ?_
    refine y_iconst 6 Y dX6_partOfQuotient_6 rfl ?_
    obtain ⟨o2, h⟩ := h
    refine y_iadd 7 Y dX6_partOfQuotient_7 o2 ?_
    refine y_iload_n 8 Y dX6_partOfQuotient_8 rfl ?_
    refine y_iconst 9 Y dX6_partOfQuotient_9 rfl ?_
    refine y_call 10 Y (as := [mi (a1 + 1), mi a2, mi 1]) [] dX6_partOfQuotient_10 rfl rfl rfl rfl rfl h (fun r S3 hq hI _ => ?_)
    obtain ⟨rfl, h⟩ := Qv_ok hq
    replace h := h hI
    clear hq
    refine y_aload_n 13 Y dX6_partOfQuotient_13 rfl ?_
    refine y_iload_n 14 Y dX6_partOfQuotient_14 rfl ?_
    refine y_iload_n 15 Y dX6_partOfQuotient_15 rfl ?_
    refine y_iconst 16 Y dX6_partOfQuotient_16 rfl ?_
    obtain ⟨o4, h⟩ := h
    refine y_iadd 17 Y dX6_partOfQuotient_17 o4 ?_
    refine y_iconst 18 Y dX6_partOfQuotient_18 rfl ?_
    refine y_call 19 Y (as := [mi a1, mi (a2 + 1), mi (-1)]) [] dX6_partOfQuotient_19 rfl rfl rfl rfl rfl h (fun r S5 hq hI _ => ?_)
    obtain ⟨rfl, h⟩ := Qv_ok hq
    replace h := h hI
    clear hq
    refine y_aload_n 22 Y dX6_partOfQuotient_22 rfl ?_
    refine y_iconst 23 Y dX6_partOfQuotient_23 rfl ?_
    refine y_iload_n 24 Y dX6_partOfQuotient_24 rfl ?_
    refine y_call 25 Y (as := [mi 2, mi a2]) [] dX6_partOfQuotient_25 rfl rfl rfl rfl rfl h (fun r S6 hq hI _ => ?_)
    obtain ⟨rfl, h⟩ := Qv_ok hq
    replace h := h hI
    clear hq
    refine y_aload_n 28 Y dX6_partOfQuotient_28 rfl ?_
    refine y_iconst 29 Y dX6_partOfQuotient_29 rfl ?_
    refine y_iconst 30 Y dX6_partOfQuotient_30 rfl ?_
    refine y_iconst 31 Y dX6_partOfQuotient_31 rfl ?_
    refine y_call 32 Y (as := [mi 3, mi 2, mi 2]) [] dX6_partOfQuotient_32 rfl rfl rfl rfl rfl h (fun r S7 hq hI _ => ?_)
    obtain ⟨rfl, h⟩ := Qv_ok hq
    replace h := h hI
    clear hq
    refine y_aload_n 35 Y dX6_partOfQuotient_35 rfl ?_
    refine y_iconst 36 Y dX6_partOfQuotient_36 rfl ?_
    refine y_bipush 37 Y dX6_partOfQuotient_37 rfl ?_
    refine y_iconst 39 Y dX6_partOfQuotient_39 rfl ?_
    refine y_call 40 Y (as := [mi 1, mi 9, mi 3]) [] dX6_partOfQuotient_40 rfl rfl rfl rfl rfl h (fun r S8 hq hI _ => ?_)
    obtain ⟨rfl, h⟩ := Qv_ok hq
    replace h := h hI
    clear hq
    refine y_aload_n 43 Y dX6_partOfQuotient_43 rfl ?_
    refine y_iconst 44 Y dX6_partOfQuotient_44 rfl ?_
    refine y_iload_n 45 Y dX6_partOfQuotient_45 rfl ?_
    refine y_call 46 Y (as := [mi 2, mi a2]) [] dX6_partOfQuotient_46 rfl rfl rfl rfl rfl h (fun r S9 hq hI _ => ?_)
    obtain ⟨rfl, h⟩ := Qv_ok hq
    replace h := h hI
    clear hq
    refine y_aload_n 49 Y dX6_partOfQuotient_49 rfl ?_
    refine y_iconst 50 Y dX6_partOfQuotient_50 rfl ?_
    refine y_iconst 51 Y dX6_partOfQuotient_51 rfl ?_
    refine y_iconst 52 Y dX6_partOfQuotient_52 rfl ?_
    refine y_call 53 Y (as := [mi 3, mi 2, mi 2]) [] dX6_partOfQuotient_53 rfl rfl rfl rfl rfl h (fun r S10 hq hI _ => ?_)
    obtain ⟨rfl, h⟩ := Qv_ok hq
    replace h := h hI
    clear hq
    refine y_aload_n 56 Y dX6_partOfQuotient_56 rfl ?_
    refine y_iconst 57 Y dX6_partOfQuotient_57 rfl ?_
    refine y_bipush 58 Y dX6_partOfQuotient_58 rfl ?_
    refine y_iconst 60 Y dX6_partOfQuotient_60 rfl ?_
    refine y_call 61 Y (as := [mi 0, mi 8, mi 3]) [] dX6_partOfQuotient_61 rfl rfl rfl rfl rfl h (fun r S11 hq hI _ => ?_)
    obtain ⟨rfl, h⟩ := Qv_ok hq
    replace h := h hI
    clear hq
    refine y_aload_n 64 Y dX6_partOfQuotient_64 rfl ?_
    refine y_sipush 65 Y dX6_partOfQuotient_65 rfl ?_
    refine y_aload_n 68 Y dX6_partOfQuotient_68 rfl ?_
    refine y_getf 69 Y 69 dX6_partOfQuotient_69 rfl rfl (fun _ => ?_)
    refine y_call 72 Y (as := [mi 3604, mi (S11 69 0)]) [] dX6_partOfQuotient_72 rfl rfl rfl rfl rfl h (fun r S12 hq hI hr => ?_)
    obtain ⟨v13, rfl, h⟩ := Qi_ok hq
    replace h := h hI (mokI (hr _ rfl))
    clear hq hr
    exact y_zret 75 Y dX6_partOfQuotient_75 rfl h.1 h.2
  · intro n pc L st T hi
    exact hi.elim

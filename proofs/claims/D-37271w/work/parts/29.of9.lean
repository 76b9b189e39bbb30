/-! Contracts out of conditions; printed by gen_vc.py. -/
set_option maxRecDepth 100000
set_option maxHeartbeats 4000000 in
theorem of_raisePolynomial {g : mG} {S : mS} {a1 a2 : Int} {Qp : Option mV → mS → Prop} (I21 : Nat → Int → Int → Int → mS → Prop) (I66 : Nat → Int → Int → Int → mS → Prop) (I104 : Nat → Int → Int → Int → mS → Prop)
    (hE : mI S → (-2147483648 ≤ a1 ∧ a1 ≤ 2147483647) → (-2147483648 ≤ a2 ∧ a2 ≤ 2147483647) → CX_degreeOf g [mt, mi a1] S (Qi fun v2 S1 => mI S1 → (-2147483648 ≤ v2 ∧ v2 ≤ 2147483647) → (-2147483648 ≤ ((v2 * a2) : Int) ∧ (v2 * a2) ≤ 2147483647) ∧ (((v2 * a2) ≤ 8) → CX_makeWhole g [mt, mi a1] S1 (Qv fun S4 => mI S4 → (∃ n1, I21 n1 a1 a2 0 S4))) ∧ (¬ ((v2 * a2) ≤ 8) → Qp (some (mi 0)) S1)))
    (h21 : ∀ (n : Nat) (l1 l2 l3 : Int) (T : mS), mI T → (-2147483648 ≤ l1 ∧ l1 ≤ 2147483647) → (-2147483648 ≤ l2 ∧ l2 ≤ 2147483647) → (-2147483648 ≤ l3 ∧ l3 ≤ 2147483647) → I21 n l1 l2 l3 T → ((9 ≤ l3) → CX_put g [mt, mi 9, mi 1] T (Qv fun S1 => mI S1 → (∃ n1, n1 < n ∧ I66 n1 l1 l2 0 S1))) ∧ (¬ (9 ≤ l3) → ((l3 ≠ 0) → CX_put g [mt, mi 2, mi 0] T (Qv fun S2 => mI S2 → (-2147483648 ≤ ((9 + l3) : Int) ∧ (9 + l3) ≤ 2147483647) ∧ CX_keepWhole g [mt, mi (9 + l3), mi 2, mi 1] S2 (Qv fun S4 => mI S4 → (-2147483648 ≤ ((l3 + 1) : Int) ∧ (l3 + 1) ≤ 2147483647) ∧ (∃ n1, n1 < n ∧ I21 n1 l1 l2 (l3 + 1) S4)))) ∧ (¬ (l3 ≠ 0) → CX_put g [mt, mi 2, mi 1] T (Qv fun S6 => mI S6 → (-2147483648 ≤ ((9 + l3) : Int) ∧ (9 + l3) ≤ 2147483647) ∧ CX_keepWhole g [mt, mi (9 + l3), mi 2, mi 1] S6 (Qv fun S8 => mI S8 → (-2147483648 ≤ ((l3 + 1) : Int) ∧ (l3 + 1) ≤ 2147483647) ∧ (∃ n1, n1 < n ∧ I21 n1 l1 l2 (l3 + 1) S8))))))
    (h66 : ∀ (n : Nat) (l1 l2 l3 : Int) (T : mS), mI T → (-2147483648 ≤ l1 ∧ l1 ≤ 2147483647) → (-2147483648 ≤ l2 ∧ l2 ≤ 2147483647) → (-2147483648 ≤ l3 ∧ l3 ≤ 2147483647) → I66 n l1 l2 l3 T → ((l2 ≤ l3) → (∃ n1, n1 < n ∧ I104 n1 l1 1 0 T)) ∧ (¬ (l2 ≤ l3) → CX_raiseWhole g [mt] T (Qv fun S1 => mI S1 → CX_times g [mt, mi 10, mi 9, mi 8] S1 (Qv fun S2 => mI S2 → CX_copy g [mt, mi 9, mi 10] S2 (Qv fun S3 => mI S3 → (-2147483648 ≤ ((l3 + 1) : Int) ∧ (l3 + 1) ≤ 2147483647) ∧ (∃ n1, n1 < n ∧ I66 n1 l1 l2 (l3 + 1) S3))))))
    (h104 : ∀ (n : Nat) (l1 l3 l4 : Int) (T : mS), mI T → (-2147483648 ≤ l1 ∧ l1 ≤ 2147483647) → (-2147483648 ≤ l3 ∧ l3 ≤ 2147483647) → (-2147483648 ≤ l4 ∧ l4 ≤ 2147483647) → I104 n l1 l3 l4 T → ((9 ≤ l4) → (l3 = 0 ∨ l3 = 1) ∧ Qp (some (mi l3)) T) ∧ (¬ (9 ≤ l4) → ((l3 = 0) → (l3 = 0 ∨ l3 = 1) ∧ Qp (some (mi l3)) T) ∧ (¬ (l3 = 0) → (-2147483648 ≤ ((9 + l4) : Int) ∧ (9 + l4) ≤ 2147483647) ∧ CX_loadWhole g [mt, mi 0, mi (9 + l4)] T (Qv fun S2 => mI S2 → CX_copy g [mt, mi 1, mi 9] S2 (Qv fun S3 => mI S3 → CX_coefficientAt g [mi l1, mi l4] S3 (Qi fun v5 S4 => mI S4 → (-2147483648 ≤ v5 ∧ v5 ≤ 2147483647) → (0 ≤ (9 + l4)) ∧ ((9 + l4) < 27) ∧ CX_store g [mt, mi v5, mi (S4 72 (9 + l4))] S4 (Qi fun v9 S8 => mI S8 → (-2147483648 ≤ v9 ∧ v9 ≤ 2147483647) → (-2147483648 ≤ ((l4 + 1) : Int) ∧ (l4 + 1) ≤ 2147483647) ∧ (∃ n1, n1 < n ∧ I104 n1 l1 v9 (l4 + 1) S8))))))))
    : CX_raisePolynomial g [mt, mi a1, mi a2] S Qp := by
  refine cm_y ⟨by decide, rfl⟩ (by simp [mcat]) (by simp) (fun n pc L st S => (pc = 21 ∧ ∃ (l1 : Int) (l2 : Int) (l3 : Int), L = [some mt, some (mi l1), some (mi l2), some (mi l3), none] ∧ st = [] ∧ I21 n l1 l2 l3 S) ∨ (pc = 66 ∧ ∃ (l1 : Int) (l2 : Int) (l3 : Int), L = [some mt, some (mi l1), some (mi l2), some (mi l3), none] ∧ st = [] ∧ I66 n l1 l2 l3 S) ∨ (pc = 104 ∧ ∃ (l1 : Int) (l3 : Int) (l4 : Int), L = [some mt, some (mi l1), none, some (mi l3), some (mi l4)] ∧ st = [] ∧ I104 n l1 l3 l4 S)) ?_ ?_
  · intro ha hS P Y Wk hIc
    have h := hE hS (mokI (ha (mi a1) (by simp))) (mokI (ha (mi a2) (by simp)))
    clear hE ha h21 h66 h104
    refine y_aload_n 0 Y dX6_raisePolynomial_0 rfl ?_
    refine y_iload_n 1 Y dX6_raisePolynomial_1 rfl ?_
    refine y_call 2 Y (as := [mi a1]) [] dX6_raisePolynomial_2 rfl rfl rfl rfl rfl h (fun r S1 hq hI hr => ?_)
    obtain ⟨v2, rfl, h⟩ := Qi_ok hq
    replace h := h hI (mokI (hr _ rfl))
    clear hq hr
    refine y_iload_n 5 Y dX6_raisePolynomial_5 rfl ?_
    obtain ⟨o3, h⟩ := h
    refine y_imul 6 Y dX6_raisePolynomial_6 o3 ?_
    refine y_bipush 7 Y dX6_raisePolynomial_7 rfl ?_
    refine y_icmp 9 14 Y dX6_raisePolynomial_9 rfl rfl (fun c => ?_) (fun c => ?_)
    · replace h := h.1 c
      refine y_aload_n 14 Y dX6_raisePolynomial_14 rfl ?_
      refine y_iload_n 15 Y dX6_raisePolynomial_15 rfl ?_
      refine y_call 16 Y (as := [mi a1]) [] dX6_raisePolynomial_16 rfl rfl rfl rfl rfl h (fun r S4 hq hI _ => ?_)
      obtain ⟨rfl, h⟩ := Qv_ok hq
      replace h := h hI
      clear hq
      refine y_iconst 19 Y dX6_raisePolynomial_19 rfl ?_
      refine y_istore_n 20 Y [some mt, some (mi a1), some (mi a2), some (mi 0), none] dX6_raisePolynomial_20 rfl rfl ?_
      obtain ⟨n1, h⟩ := h
      exact Wk 21 _ [some mt, some (mi a1), some (mi a2), some (mi 0), none] _ _ ⟨rfl, ⟨rfl, ⟨rfl, ⟨rfl, trivial⟩⟩⟩⟩ (hIc n1 _ _ _ _ (Or.inl (⟨rfl, _, _, _, rfl, rfl, h⟩)))
    · replace h := h.2 c
      refine y_iconst 12 Y dX6_raisePolynomial_12 rfl ?_
      exact y_zret 13 Y dX6_raisePolynomial_13 rfl (by decide) h
  · intro n pc L st T hi hS hL P Y Wk hIc
    clear hE
    rcases hi with ⟨rfl, l1, l2, l3, rfl, rfl, hi⟩ | ⟨rfl, l1, l2, l3, rfl, rfl, hi⟩ | ⟨rfl, l1, l3, l4, rfl, rfl, hi⟩
    · have h := h21 n l1 l2 l3 T hS (hL 1 _ rfl) (hL 2 _ rfl) (hL 3 _ rfl) hi
      clear hL hi h21 h66 h104
      refine y_iload_n 21 Y dX6_raisePolynomial_21 rfl ?_
      refine y_bipush 22 Y dX6_raisePolynomial_22 rfl ?_
      refine y_icmp 24 57 Y dX6_raisePolynomial_24 rfl rfl (fun c => ?_) (fun c => ?_)
      · replace h := h.1 c
        refine y_aload_n 57 Y dX6_raisePolynomial_57 rfl ?_
        refine y_bipush 58 Y dX6_raisePolynomial_58 rfl ?_
        refine y_iconst 60 Y dX6_raisePolynomial_60 rfl ?_
        refine y_call 61 Y (as := [mi 9, mi 1]) [] dX6_raisePolynomial_61 rfl rfl rfl rfl rfl h (fun r S1 hq hI _ => ?_)
        obtain ⟨rfl, h⟩ := Qv_ok hq
        replace h := h hI
        clear hq
        refine y_iconst 64 Y dX6_raisePolynomial_64 rfl ?_
        refine y_istore_n 65 Y [some mt, some (mi l1), some (mi l2), some (mi 0), none] dX6_raisePolynomial_65 rfl rfl ?_
        obtain ⟨n1, hn, h⟩ := h
        exact Wk 66 _ [some mt, some (mi l1), some (mi l2), some (mi 0), none] _ _ ⟨rfl, ⟨rfl, ⟨rfl, ⟨rfl, trivial⟩⟩⟩⟩ (hIc n1 _ _ _ _ hn (Or.inr (Or.inl (⟨rfl, _, _, _, rfl, rfl, h⟩))))
      · replace h := h.2 c
        refine y_aload_n 27 Y dX6_raisePolynomial_27 rfl ?_
        refine y_iconst 28 Y dX6_raisePolynomial_28 rfl ?_
        refine y_iload_n 29 Y dX6_raisePolynomial_29 rfl ?_
        refine y_if 30 37 Y dX6_raisePolynomial_30 rfl rfl (fun c => ?_) (fun c => ?_)
        · replace h := h.1 c
          refine y_iconst 37 Y dX6_raisePolynomial_37 rfl ?_
          refine y_call 38 Y (as := [mi 2, mi 0]) [] dX6_raisePolynomial_38 rfl rfl rfl rfl rfl h (fun r S2 hq hI _ => ?_)
          obtain ⟨rfl, h⟩ := Qv_ok hq
          replace h := h hI
          clear hq
          refine y_aload_n 41 Y dX6_raisePolynomial_41 rfl ?_
          refine y_bipush 42 Y dX6_raisePolynomial_42 rfl ?_
          refine y_iload_n 44 Y dX6_raisePolynomial_44 rfl ?_
          obtain ⟨o3, h⟩ := h
          refine y_iadd 45 Y dX6_raisePolynomial_45 o3 ?_
          refine y_iconst 46 Y dX6_raisePolynomial_46 rfl ?_
          refine y_iconst 47 Y dX6_raisePolynomial_47 rfl ?_
          refine y_call 48 Y (as := [mi (9 + l3), mi 2, mi 1]) [] dX6_raisePolynomial_48 rfl rfl rfl rfl rfl h (fun r S4 hq hI _ => ?_)
          obtain ⟨rfl, h⟩ := Qv_ok hq
          replace h := h hI
          clear hq
          obtain ⟨o5, h⟩ := h
          refine y_iinc 51 Y [some mt, some (mi l1), some (mi l2), some (mi (l3 + 1)), none] dX6_raisePolynomial_51 rfl rfl o5 ?_
          refine y_goto 54 21 Y dX6_raisePolynomial_54 rfl rfl ?_
          obtain ⟨n1, hn, h⟩ := h
          exact Wk 21 _ [some mt, some (mi l1), some (mi l2), some (mi (l3 + 1)), none] _ _ ⟨rfl, ⟨rfl, ⟨rfl, ⟨rfl, trivial⟩⟩⟩⟩ (hIc n1 _ _ _ _ hn (Or.inl (⟨rfl, _, _, _, rfl, rfl, h⟩)))
        · replace h := h.2 c
          refine y_iconst 33 Y dX6_raisePolynomial_33 rfl ?_
          refine y_goto 34 38 Y dX6_raisePolynomial_34 rfl rfl ?_
          refine y_call 38 Y (as := [mi 2, mi 1]) [] dX6_raisePolynomial_38 rfl rfl rfl rfl rfl h (fun r S6 hq hI _ => ?_)
          obtain ⟨rfl, h⟩ := Qv_ok hq
          replace h := h hI
          clear hq
          refine y_aload_n 41 Y dX6_raisePolynomial_41 rfl ?_
          refine y_bipush 42 Y dX6_raisePolynomial_42 rfl ?_
          refine y_iload_n 44 Y dX6_raisePolynomial_44 rfl ?_
          obtain ⟨o7, h⟩ := h
          refine y_iadd 45 Y dX6_raisePolynomial_45 o7 ?_
          refine y_iconst 46 Y dX6_raisePolynomial_46 rfl ?_
          refine y_iconst 47 Y dX6_raisePolynomial_47 rfl ?_
          refine y_call 48 Y (as := [mi (9 + l3), mi 2, mi 1]) [] dX6_raisePolynomial_48 rfl rfl rfl rfl rfl h (fun r S8 hq hI _ => ?_)
          obtain ⟨rfl, h⟩ := Qv_ok hq
          replace h := h hI
          clear hq
          obtain ⟨o9, h⟩ := h
          refine y_iinc 51 Y [some mt, some (mi l1), some (mi l2), some (mi (l3 + 1)), none] dX6_raisePolynomial_51 rfl rfl o9 ?_
          refine y_goto 54 21 Y dX6_raisePolynomial_54 rfl rfl ?_
          obtain ⟨n1, hn, h⟩ := h
          exact Wk 21 _ [some mt, some (mi l1), some (mi l2), some (mi (l3 + 1)), none] _ _ ⟨rfl, ⟨rfl, ⟨rfl, ⟨rfl, trivial⟩⟩⟩⟩ (hIc n1 _ _ _ _ hn (Or.inl (⟨rfl, _, _, _, rfl, rfl, h⟩)))
    · have h := h66 n l1 l2 l3 T hS (hL 1 _ rfl) (hL 2 _ rfl) (hL 3 _ rfl) hi
      clear hL hi h21 h66 h104
      refine y_iload_n 66 Y dX6_raisePolynomial_66 rfl ?_
      refine y_iload_n 67 Y dX6_raisePolynomial_67 rfl ?_
      refine y_icmp 68 99 Y dX6_raisePolynomial_68 rfl rfl (fun c => ?_) (fun c => ?_)
      · replace h := h.1 c
        refine y_iconst 99 Y dX6_raisePolynomial_99 rfl ?_
        refine y_istore_n 100 Y [some mt, some (mi l1), some (mi l2), some (mi 1), none] dX6_raisePolynomial_100 rfl rfl ?_
        refine y_iconst 101 Y dX6_raisePolynomial_101 rfl ?_
        refine y_istore 102 Y [some mt, some (mi l1), some (mi l2), some (mi 1), some (mi 0)] dX6_raisePolynomial_102 rfl rfl ?_
        obtain ⟨n1, hn, h⟩ := h
        exact Wk 104 _ [some mt, some (mi l1), none, some (mi 1), some (mi 0)] _ _ ⟨rfl, ⟨rfl, ⟨rfl, ⟨rfl, trivial⟩⟩⟩⟩ (hIc n1 _ _ _ _ hn (Or.inr (Or.inr ((⟨rfl, _, _, _, rfl, rfl, h⟩)))))
      · replace h := h.2 c
        refine y_aload_n 71 Y dX6_raisePolynomial_71 rfl ?_
        refine y_call 72 Y (as := []) [] dX6_raisePolynomial_72 rfl rfl rfl rfl rfl h (fun r S1 hq hI _ => ?_)
        obtain ⟨rfl, h⟩ := Qv_ok hq
        replace h := h hI
        clear hq
        refine y_aload_n 75 Y dX6_raisePolynomial_75 rfl ?_
        refine y_bipush 76 Y dX6_raisePolynomial_76 rfl ?_
        refine y_bipush 78 Y dX6_raisePolynomial_78 rfl ?_
        refine y_bipush 80 Y dX6_raisePolynomial_80 rfl ?_
        refine y_call 82 Y (as := [mi 10, mi 9, mi 8]) [] dX6_raisePolynomial_82 rfl rfl rfl rfl rfl h (fun r S2 hq hI _ => ?_)
        obtain ⟨rfl, h⟩ := Qv_ok hq
        replace h := h hI
        clear hq
        refine y_aload_n 85 Y dX6_raisePolynomial_85 rfl ?_
        refine y_bipush 86 Y dX6_raisePolynomial_86 rfl ?_
        refine y_bipush 88 Y dX6_raisePolynomial_88 rfl ?_
        refine y_call 90 Y (as := [mi 9, mi 10]) [] dX6_raisePolynomial_90 rfl rfl rfl rfl rfl h (fun r S3 hq hI _ => ?_)
        obtain ⟨rfl, h⟩ := Qv_ok hq
        replace h := h hI
        clear hq
        obtain ⟨o4, h⟩ := h
        refine y_iinc 93 Y [some mt, some (mi l1), some (mi l2), some (mi (l3 + 1)), none] dX6_raisePolynomial_93 rfl rfl o4 ?_
        refine y_goto 96 66 Y dX6_raisePolynomial_96 rfl rfl ?_
        obtain ⟨n1, hn, h⟩ := h
        exact Wk 66 _ [some mt, some (mi l1), some (mi l2), some (mi (l3 + 1)), none] _ _ ⟨rfl, ⟨rfl, ⟨rfl, ⟨rfl, trivial⟩⟩⟩⟩ (hIc n1 _ _ _ _ hn (Or.inr (Or.inl (⟨rfl, _, _, _, rfl, rfl, h⟩))))
    · have h := h104 n l1 l3 l4 T hS (hL 1 _ rfl) (hL 3 _ rfl) (hL 4 _ rfl) hi
      clear hL hi h21 h66 h104
      refine y_iload 104 Y dX6_raisePolynomial_104 rfl ?_
      refine y_bipush 106 Y dX6_raisePolynomial_106 rfl ?_
      refine y_icmp 108 159 Y dX6_raisePolynomial_108 rfl rfl (fun c => ?_) (fun c => ?_)
      · replace h := h.1 c
        refine y_iload_n 159 Y dX6_raisePolynomial_159 rfl ?_
        exact y_zret 160 Y dX6_raisePolynomial_160 rfl h.1 h.2
      · replace h := h.2 c
        refine y_iload_n 111 Y dX6_raisePolynomial_111 rfl ?_
        refine y_if 112 159 Y dX6_raisePolynomial_112 rfl rfl (fun c => ?_) (fun c => ?_)
        · replace h := h.1 c
          refine y_iload_n 159 Y dX6_raisePolynomial_159 rfl ?_
          exact y_zret 160 Y dX6_raisePolynomial_160 rfl h.1 h.2
        · replace h := h.2 c
          refine y_aload_n 115 Y dX6_raisePolynomial_115 rfl ?_
          refine y_iconst 116 Y dX6_raisePolynomial_116 rfl ?_
          refine y_bipush 117 Y dX6_raisePolynomial_117 rfl ?_
          refine y_iload 119 Y dX6_raisePolynomial_119 rfl ?_
          obtain ⟨o1, h⟩ := h
          refine y_iadd 121 Y dX6_raisePolynomial_121 o1 ?_
          refine y_call 122 Y (as := [mi 0, mi (9 + l4)]) [] dX6_raisePolynomial_122 rfl rfl rfl rfl rfl h (fun r S2 hq hI _ => ?_)
          obtain ⟨rfl, h⟩ := Qv_ok hq
          replace h := h hI
          clear hq
          refine y_aload_n 125 Y dX6_raisePolynomial_125 rfl ?_
          refine y_iconst 126 Y dX6_raisePolynomial_126 rfl ?_
          refine y_bipush 127 Y dX6_raisePolynomial_127 rfl ?_
          refine y_call 129 Y (as := [mi 1, mi 9]) [] dX6_raisePolynomial_129 rfl rfl rfl rfl rfl h (fun r S3 hq hI _ => ?_)
          obtain ⟨rfl, h⟩ := Qv_ok hq
          replace h := h hI
          clear hq
          refine y_aload_n 132 Y dX6_raisePolynomial_132 rfl ?_
          refine y_iload_n 133 Y dX6_raisePolynomial_133 rfl ?_
          refine y_iload 134 Y dX6_raisePolynomial_134 rfl ?_
          refine y_calls 136 Y (as := [mi l1, mi l4]) [mt] dX6_raisePolynomial_136 rfl rfl rfl rfl rfl h (fun r S4 hq hI hr => ?_)
          obtain ⟨v5, rfl, h⟩ := Qi_ok hq
          replace h := h hI (mokI (hr _ rfl))
          clear hq hr
          refine y_aload_n 139 Y dX6_raisePolynomial_139 rfl ?_
          refine y_geta 140 Y 72 dX6_raisePolynomial_140 rfl rfl ?_
          refine y_bipush 143 Y dX6_raisePolynomial_143 rfl ?_
          refine y_iload 145 Y dX6_raisePolynomial_145 rfl ?_
          refine y_iadd 147 Y dX6_raisePolynomial_147 o1 ?_
          obtain ⟨o6, h⟩ := h
          obtain ⟨o7, h⟩ := h
          refine y_iald 148 Y dX6_raisePolynomial_148 rfl rfl o6 o7 (fun _ => ?_)
          refine y_call 149 Y (as := [mi v5, mi (S4 72 (9 + l4))]) [] dX6_raisePolynomial_149 rfl rfl rfl rfl rfl h (fun r S8 hq hI hr => ?_)
          obtain ⟨v9, rfl, h⟩ := Qi_ok hq
          replace h := h hI (mokI (hr _ rfl))
          clear hq hr
          refine y_istore_n 152 Y [some mt, some (mi l1), none, some (mi v9), some (mi l4)] dX6_raisePolynomial_152 rfl rfl ?_
          obtain ⟨o10, h⟩ := h
          refine y_iinc 153 Y [some mt, some (mi l1), none, some (mi v9), some (mi (l4 + 1))] dX6_raisePolynomial_153 rfl rfl o10 ?_
          refine y_goto 156 104 Y dX6_raisePolynomial_156 rfl rfl ?_
          obtain ⟨n1, hn, h⟩ := h
          exact Wk 104 _ [some mt, some (mi l1), none, some (mi v9), some (mi (l4 + 1))] _ _ ⟨rfl, ⟨rfl, ⟨rfl, ⟨rfl, trivial⟩⟩⟩⟩ (hIc n1 _ _ _ _ hn (Or.inr (Or.inr ((⟨rfl, _, _, _, rfl, rfl, h⟩)))))
set_option maxHeartbeats 4000000 in
theorem of_remainder {g : mG} {S : mS} {a1 a2 a3 : Int} {Qp : Option mV → mS → Prop}
    (hE : mI S → (-2147483648 ≤ a1 ∧ a1 ≤ 2147483647) → (-2147483648 ≤ a2 ∧ a2 ≤ 2147483647) → (-2147483648 ≤ a3 ∧ a3 ≤ 2147483647) → CX_isWhole g [mt, mi a2] S (Qi fun v2 S1 => mI S1 → (-2147483648 ≤ v2 ∧ v2 ≤ 2147483647) → ((v2 = 0) → Qp (some (mi 2)) S1) ∧ (¬ (v2 = 0) → CX_isWhole g [mt, mi a3] S1 (Qi fun v4 S3 => mI S3 → (-2147483648 ≤ v4 ∧ v4 ≤ 2147483647) → ((v4 ≠ 0) → CX_sign_2 g [mt, mi a3] S3 (Qi fun v6 S5 => mI S5 → (-2147483648 ≤ v6 ∧ v6 ≤ 2147483647) → ((v6 ≠ 0) → CX_loadNumerator g [mt, mi 2, mi a2] S5 (Qv fun S7 => mI S7 → CX_loadNumerator g [mt, mi 4, mi a3] S7 (Qv fun S8 => mI S8 → CX_divide g [mt, mi 6, mi 7, mi 2, mi 4] S8 (Qv fun S9 => mI S9 → CX_sign_2 g [mt, mi a2] S9 (Qi fun v11 S10 => mI S10 → (-2147483648 ≤ v11 ∧ v11 ≤ 2147483647) → ((0 ≤ v11) → CX_copy g [mt, mi 0, mi 7] S10 (Qv fun S12 => mI S12 → CX_put g [mt, mi 1, mi 1] S12 (Qv fun S13 => mI S13 → CX_store g [mt, mi a1, mi 1] S13 (Qi fun v15 S14 => mI S14 → (-2147483648 ≤ v15 ∧ v15 ≤ 2147483647) → Qp (some (mi 0)) S14)))) ∧ (¬ (0 ≤ v11) → (((S10 2 7) ≤ 0) → CX_copy g [mt, mi 0, mi 7] S10 (Qv fun S16 => mI S16 → CX_put g [mt, mi 1, mi 1] S16 (Qv fun S17 => mI S17 → CX_store g [mt, mi a1, mi 1] S17 (Qi fun v19 S18 => mI S18 → (-2147483648 ≤ v19 ∧ v19 ≤ 2147483647) → Qp (some (mi 0)) S18)))) ∧ (¬ ((S10 2 7) ≤ 0) → CX_copy g [mt, mi 0, mi 4] S10 (Qv fun S20 => mI S20 → CX_minus g [mt, mi 0, mi 7] S20 (Qv fun S21 => mI S21 → CX_put g [mt, mi 1, mi 1] S21 (Qv fun S22 => mI S22 → CX_store g [mt, mi a1, mi 1] S22 (Qi fun v24 S23 => mI S23 → (-2147483648 ≤ v24 ∧ v24 ≤ 2147483647) → Qp (some (mi 0)) S23))))))))))) ∧ (¬ (v6 ≠ 0) → Qp (some (mi 1)) S5))) ∧ (¬ (v4 ≠ 0) → Qp (some (mi 2)) S3)))))
    : CX_remainder g [mt, mi a1, mi a2, mi a3] S Qp := by
  refine cm_y ⟨by decide, rfl⟩ (by simp [mcat]) (by simp) (fun _ _ _ _ _ => False) ?_ ?_
  · intro ha hS P Y Wk hIc
    have h := hE hS (mokI (ha (mi a1) (by simp))) (mokI (ha (mi a2) (by simp))) (mokI (ha (mi a3) (by simp)))
    clear hE ha
    refine y_aload_n 0 Y dX6_remainder_0 rfl ?_
    refine y_iload_n 1 Y dX6_remainder_1 rfl ?_
    refine y_call 2 Y (as := [mi a2]) [] dX6_remainder_2 rfl rfl rfl rfl rfl h (fun r S1 hq hI hr => ?_)
    obtain ⟨v2, rfl, h⟩ := Qi_ok hq
    replace h := h hI (mokI (hr _ rfl))
    clear hq hr
    refine y_if 5 16 Y dX6_remainder_5 rfl rfl (fun c => ?_) (fun c => ?_)
    · replace h := h.1 c
      refine y_iconst 16 Y dX6_remainder_16 rfl ?_
      exact y_iret 17 Y dX6_remainder_17 rfl h
    · replace h := h.2 c
      refine y_aload_n 8 Y dX6_remainder_8 rfl ?_
      refine y_iload_n 9 Y dX6_remainder_9 rfl ?_
      refine y_call 10 Y (as := [mi a3]) [] dX6_remainder_10 rfl rfl rfl rfl rfl h (fun r S3 hq hI hr => ?_)
      obtain ⟨v4, rfl, h⟩ := Qi_ok hq
      replace h := h hI (mokI (hr _ rfl))
      clear hq hr
      refine y_if 13 18 Y dX6_remainder_13 rfl rfl (fun c => ?_) (fun c => ?_)
      · replace h := h.1 c
        refine y_aload_n 18 Y dX6_remainder_18 rfl ?_
        refine y_iload_n 19 Y dX6_remainder_19 rfl ?_
        refine y_call 20 Y (as := [mi a3]) [] dX6_remainder_20 rfl rfl rfl rfl rfl h (fun r S5 hq hI hr => ?_)
        obtain ⟨v6, rfl, h⟩ := Qi_ok hq
        replace h := h hI (mokI (hr _ rfl))
        clear hq hr
        refine y_if 23 28 Y dX6_remainder_23 rfl rfl (fun c => ?_) (fun c => ?_)
        · replace h := h.1 c
          refine y_aload_n 28 Y dX6_remainder_28 rfl ?_
          refine y_iconst 29 Y dX6_remainder_29 rfl ?_
          refine y_iload_n 30 Y dX6_remainder_30 rfl ?_
          refine y_call 31 Y (as := [mi 2, mi a2]) [] dX6_remainder_31 rfl rfl rfl rfl rfl h (fun r S7 hq hI _ => ?_)
          obtain ⟨rfl, h⟩ := Qv_ok hq
          replace h := h hI
          clear hq
          refine y_aload_n 34 Y dX6_remainder_34 rfl ?_
          refine y_iconst 35 Y dX6_remainder_35 rfl ?_
          refine y_iload_n 36 Y dX6_remainder_36 rfl ?_
          refine y_call 37 Y (as := [mi 4, mi a3]) [] dX6_remainder_37 rfl rfl rfl rfl rfl h (fun r S8 hq hI _ => ?_)
          obtain ⟨rfl, h⟩ := Qv_ok hq
          replace h := h hI
          clear hq
          refine y_aload_n 40 Y dX6_remainder_40 rfl ?_
          refine y_bipush 41 Y dX6_remainder_41 rfl ?_
          refine y_bipush 43 Y dX6_remainder_43 rfl ?_
          refine y_iconst 45 Y dX6_remainder_45 rfl ?_
          refine y_iconst 46 Y dX6_remainder_46 rfl ?_
          refine y_call 47 Y (as := [mi 6, mi 7, mi 2, mi 4]) [] dX6_remainder_47 rfl rfl rfl rfl rfl h (fun r S9 hq hI _ => ?_)
          obtain ⟨rfl, h⟩ := Qv_ok hq
          replace h := h hI
          clear hq
          refine y_aload_n 50 Y dX6_remainder_50 rfl ?_
          refine y_iload_n 51 Y dX6_remainder_51 rfl ?_
          refine y_call 52 Y (as := [mi a2]) [] dX6_remainder_52 rfl rfl rfl rfl rfl h (fun r S10 hq hI hr => ?_)
          obtain ⟨v11, rfl, h⟩ := Qi_ok hq
          replace h := h hI (mokI (hr _ rfl))
          clear hq hr
          refine y_if 55 84 Y dX6_remainder_55 rfl rfl (fun c => ?_) (fun c => ?_)
          · replace h := h.1 c
            refine y_aload_n 84 Y dX6_remainder_84 rfl ?_
            refine y_iconst 85 Y dX6_remainder_85 rfl ?_
            refine y_bipush 86 Y dX6_remainder_86 rfl ?_
            refine y_call 88 Y (as := [mi 0, mi 7]) [] dX6_remainder_88 rfl rfl rfl rfl rfl h (fun r S12 hq hI _ => ?_)
            obtain ⟨rfl, h⟩ := Qv_ok hq
            replace h := h hI
            clear hq
            refine y_aload_n 91 Y dX6_remainder_91 rfl ?_
            refine y_iconst 92 Y dX6_remainder_92 rfl ?_
            refine y_iconst 93 Y dX6_remainder_93 rfl ?_
            refine y_call 94 Y (as := [mi 1, mi 1]) [] dX6_remainder_94 rfl rfl rfl rfl rfl h (fun r S13 hq hI _ => ?_)
            obtain ⟨rfl, h⟩ := Qv_ok hq
            replace h := h hI
            clear hq
            refine y_aload_n 97 Y dX6_remainder_97 rfl ?_
            refine y_iload_n 98 Y dX6_remainder_98 rfl ?_
            refine y_iconst 99 Y dX6_remainder_99 rfl ?_
            refine y_call 100 Y (as := [mi a1, mi 1]) [] dX6_remainder_100 rfl rfl rfl rfl rfl h (fun r S14 hq hI hr => ?_)
            obtain ⟨v15, rfl, h⟩ := Qi_ok hq
            replace h := h hI (mokI (hr _ rfl))
            clear hq hr
            refine y_pop 103 Y dX6_remainder_103 rfl ?_
            refine y_iconst 104 Y dX6_remainder_104 rfl ?_
            exact y_iret 105 Y dX6_remainder_105 rfl h
          · replace h := h.2 c
            refine y_aload_n 58 Y dX6_remainder_58 rfl ?_
            refine y_geta 59 Y 2 dX6_remainder_59 rfl rfl ?_
            refine y_bipush 62 Y dX6_remainder_62 rfl ?_
            refine y_iald 64 Y dX6_remainder_64 rfl rfl (by decide) (by decide) (fun _ => ?_)
            refine y_if 65 84 Y dX6_remainder_65 rfl rfl (fun c => ?_) (fun c => ?_)
            · replace h := h.1 c
              refine y_aload_n 84 Y dX6_remainder_84 rfl ?_
              refine y_iconst 85 Y dX6_remainder_85 rfl ?_
              refine y_bipush 86 Y dX6_remainder_86 rfl ?_
              refine y_call 88 Y (as := [mi 0, mi 7]) [] dX6_remainder_88 rfl rfl rfl rfl rfl h (fun r S16 hq hI _ => ?_)
              obtain ⟨rfl, h⟩ := Qv_ok hq
              replace h := h hI
              clear hq
              refine y_aload_n 91 Y dX6_remainder_91 rfl ?_
              refine y_iconst 92 Y dX6_remainder_92 rfl ?_
              refine y_iconst 93 Y dX6_remainder_93 rfl ?_
              refine y_call 94 Y (as := [mi 1, mi 1]) [] dX6_remainder_94 rfl rfl rfl rfl rfl h (fun r S17 hq hI _ => ?_)
              obtain ⟨rfl, h⟩ := Qv_ok hq
              replace h := h hI
              clear hq
              refine y_aload_n 97 Y dX6_remainder_97 rfl ?_
              refine y_iload_n 98 Y dX6_remainder_98 rfl ?_
              refine y_iconst 99 Y dX6_remainder_99 rfl ?_
              refine y_call 100 Y (as := [mi a1, mi 1]) [] dX6_remainder_100 rfl rfl rfl rfl rfl h (fun r S18 hq hI hr => ?_)
              obtain ⟨v19, rfl, h⟩ := Qi_ok hq
              replace h := h hI (mokI (hr _ rfl))
              clear hq hr
              refine y_pop 103 Y dX6_remainder_103 rfl ?_
              refine y_iconst 104 Y dX6_remainder_104 rfl ?_
              exact y_iret 105 Y dX6_remainder_105 rfl h
            · replace h := h.2 c
              refine y_aload_n 68 Y dX6_remainder_68 rfl ?_
              refine y_iconst 69 Y dX6_remainder_69 rfl ?_
              refine y_iconst 70 Y dX6_remainder_70 rfl ?_
              refine y_call 71 Y (as := [mi 0, mi 4]) [] dX6_remainder_71 rfl rfl rfl rfl rfl h (fun r S20 hq hI _ => ?_)
              obtain ⟨rfl, h⟩ := Qv_ok hq
              replace h := h hI
              clear hq
              refine y_aload_n 74 Y dX6_remainder_74 rfl ?_
              refine y_iconst 75 Y dX6_remainder_75 rfl ?_
              refine y_bipush 76 Y dX6_remainder_76 rfl ?_
              refine y_call 78 Y (as := [mi 0, mi 7]) [] dX6_remainder_78 rfl rfl rfl rfl rfl h (fun r S21 hq hI _ => ?_)
              obtain ⟨rfl, h⟩ := Qv_ok hq
              replace h := h hI
              clear hq
              refine y_goto 81 91 Y dX6_remainder_81 rfl rfl ?_
              refine y_aload_n 91 Y dX6_remainder_91 rfl ?_
              refine y_iconst 92 Y dX6_remainder_92 rfl ?_
              refine y_iconst 93 Y dX6_remainder_93 rfl ?_
              refine y_call 94 Y (as := [mi 1, mi 1]) [] dX6_remainder_94 rfl rfl rfl rfl rfl h (fun r S22 hq hI _ => ?_)
              obtain ⟨rfl, h⟩ := Qv_ok hq
              replace h := h hI
              clear hq
              refine y_aload_n 97 Y dX6_remainder_97 rfl ?_
              refine y_iload_n 98 Y dX6_remainder_98 rfl ?_
              refine y_iconst 99 Y dX6_remainder_99 rfl ?_
              refine y_call 100 Y (as := [mi a1, mi 1]) [] dX6_remainder_100 rfl rfl rfl rfl rfl h (fun r S23 hq hI hr => ?_)
              obtain ⟨v24, rfl, h⟩ := Qi_ok hq
              replace h := h hI (mokI (hr _ rfl))
              clear hq hr
              refine y_pop 103 Y dX6_remainder_103 rfl ?_
              refine y_iconst 104 Y dX6_remainder_104 rfl ?_
              exact y_iret 105 Y dX6_remainder_105 rfl h
        · replace h := h.2 c
          refine y_iconst 26 Y dX6_remainder_26 rfl ?_
          exact y_iret 27 Y dX6_remainder_27 rfl h
      · replace h := h.2 c
        refine y_iconst 16 Y dX6_remainder_16 rfl ?_
        exact y_iret 17 Y dX6_remainder_17 rfl h
  · intro n pc L st T hi
    exact hi.elim
set_option maxHeartbeats 4000000 in
theorem of_ruleAt {g : mG} {S : mS} {a1 : Int} {Qp : Option mV → mS → Prop}
    (hE : mI S → (-2147483648 ≤ a1 ∧ a1 ≤ 2147483647) → CX_meaningAt g [mt, mi a1] S (Qi fun v2 S1 => mI S1 → (-2147483648 ≤ v2 ∧ v2 ≤ 2147483647) → ((v2 ≠ 11) → CX_in g [mi v2, mi 0, mi 5] S1 (Qi fun v4 S3 => mI S3 → (-2147483648 ≤ v4 ∧ v4 ≤ 2147483647) → ((v4 = 0) → Qp (some (mi 0)) S3) ∧ (¬ (v4 = 0) → (0 ≤ a1) ∧ (a1 < 20300) ∧ (((S3 7 a1) ≠ 2) → Qp (some (mi 0)) S3) ∧ (¬ ((S3 7 a1) ≠ 2) → CX_ruleOfTwo g [mt, mi a1, mi v2] S3 (Qi fun v8 S7 => mI S7 → (-2147483648 ≤ v8 ∧ v8 ≤ 2147483647) → Qp (some (mi v8)) S7))))) ∧ (¬ (v2 ≠ 11) → (-2147483648 ≤ ((a1 + 1) : Int) ∧ (a1 + 1) ≤ 2147483647) ∧ CX_meaningAt g [mt, mi (a1 + 1)] S1 (Qi fun v11 S10 => mI S10 → (-2147483648 ≤ v11 ∧ v11 ≤ 2147483647) → ((v11 ≠ 11) → CX_in g [mi v2, mi 0, mi 5] S10 (Qi fun v13 S12 => mI S12 → (-2147483648 ≤ v13 ∧ v13 ≤ 2147483647) → ((v13 = 0) → Qp (some (mi 0)) S12) ∧ (¬ (v13 = 0) → (0 ≤ a1) ∧ (a1 < 20300) ∧ (((S12 7 a1) ≠ 2) → Qp (some (mi 0)) S12) ∧ (¬ ((S12 7 a1) ≠ 2) → CX_ruleOfTwo g [mt, mi a1, mi v2] S12 (Qi fun v17 S16 => mI S16 → (-2147483648 ≤ v17 ∧ v17 ≤ 2147483647) → Qp (some (mi v17)) S16))))) ∧ (¬ (v11 ≠ 11) → (-2147483648 ≤ ((a1 + 2) : Int) ∧ (a1 + 2) ≤ 2147483647) ∧ CX_becomesInner g [mt, mi a1, mi (a1 + 2)] S10 (Qv fun S19 => mI S19 → Qp (some (mi 6)) S19))))))
    : CX_ruleAt g [mt, mi a1] S Qp := by
  refine cm_y ⟨by decide, rfl⟩ (by simp [mcat]) (by simp) (fun _ _ _ _ _ => False) ?_ ?_
  · intro ha hS P Y Wk hIc
    have h := hE hS (mokI (ha (mi a1) (by simp)))
    clear hE ha
    refine y_aload_n 0 Y dX6_ruleAt_0 rfl ?_
    refine y_iload_n 1 Y dX6_ruleAt_1 rfl ?_
    refine y_call 2 Y (as := [mi a1]) [] dX6_ruleAt_2 rfl rfl rfl rfl rfl h (fun r S1 hq hI hr => ?_)
    obtain ⟨v2, rfl, h⟩ := Qi_ok hq
    replace h := h hI (mokI (hr _ rfl))
    clear hq hr
    refine y_istore_n 5 Y [some mt, some (mi a1), some (mi v2)] dX6_ruleAt_5 rfl rfl ?_
    refine y_iload_n 6 Y dX6_ruleAt_6 rfl ?_
    refine y_bipush 7 Y dX6_ruleAt_7 rfl ?_
    refine y_icmp 9 35 Y dX6_ruleAt_9 rfl rfl (fun c => ?_) (fun c => ?_)
    · replace h := h.1 c
      refine y_iload_n 35 Y dX6_ruleAt_35 rfl ?_
      refine y_iconst 36 Y dX6_ruleAt_36 rfl ?_
      refine y_iconst 37 Y dX6_ruleAt_37 rfl ?_
      refine y_calls 38 Y (as := [mi v2, mi 0, mi 5]) [] dX6_ruleAt_38 rfl rfl rfl rfl rfl h (fun r S3 hq hI hr => ?_)
      obtain ⟨v4, rfl, h⟩ := Qi_ok hq
      replace h := h hI (mokI (hr _ rfl))
      clear hq hr
      refine y_if 41 63 Y dX6_ruleAt_41 rfl rfl (fun c => ?_) (fun c => ?_)
      · replace h := h.1 c
        refine y_iconst 63 Y dX6_ruleAt_63 rfl ?_
        exact y_iret 64 Y dX6_ruleAt_64 rfl h
      · replace h := h.2 c
        refine y_aload_n 44 Y dX6_ruleAt_44 rfl ?_
        refine y_geta 45 Y 7 dX6_ruleAt_45 rfl rfl ?_
        refine y_iload_n 48 Y dX6_ruleAt_48 rfl ?_
        obtain ⟨o5, h⟩ := h
        obtain ⟨o6, h⟩ := h
        refine y_iald 49 Y dX6_ruleAt_49 rfl rfl o5 o6 (fun _ => ?_)
        refine y_iconst 50 Y dX6_ruleAt_50 rfl ?_
        refine y_icmp 51 63 Y dX6_ruleAt_51 rfl rfl (fun c => ?_) (fun c => ?_)
        · replace h := h.1 c
          refine y_iconst 63 Y dX6_ruleAt_63 rfl ?_
          exact y_iret 64 Y dX6_ruleAt_64 rfl h
        · replace h := h.2 c
          refine y_aload_n 54 Y dX6_ruleAt_54 rfl ?_
          refine y_iload_n 55 Y dX6_ruleAt_55 rfl ?_
          refine y_iload_n 56 Y dX6_ruleAt_56 rfl ?_
          refine y_call 57 Y (as := [mi a1, mi v2]) [] dX6_ruleAt_57 rfl rfl rfl rfl rfl h (fun r S7 hq hI hr => ?_)
          obtain ⟨v8, rfl, h⟩ := Qi_ok hq
          replace h := h hI (mokI (hr _ rfl))
          clear hq hr
          refine y_goto 60 64 Y dX6_ruleAt_60 rfl rfl ?_
          exact y_iret 64 Y dX6_ruleAt_64 rfl h
    · replace h := h.2 c
      refine y_aload_n 12 Y dX6_ruleAt_12 rfl ?_
      refine y_iload_n 13 Y dX6_ruleAt_13 rfl ?_
      refine y_iconst 14 Y dX6_ruleAt_14 rfl ?_
      obtain ⟨o9, h⟩ := h
      refine y_iadd 15 Y dX6_ruleAt_15 o9 ?_
      refine y_call 16 Y (as := [mi (a1 + 1)]) [] dX6_ruleAt_16 rfl rfl rfl rfl rfl h (fun r S10 hq hI hr => ?_)
      obtain ⟨v11, rfl, h⟩ := Qi_ok hq
      replace h := h hI (mokI (hr _ rfl))
      clear hq hr
      refine y_bipush 19 Y dX6_ruleAt_19 rfl ?_
      refine y_icmp 21 35 Y dX6_ruleAt_21 rfl rfl (fun c => ?_) (fun c => ?_)
      · replace h := h.1 c
        refine y_iload_n 35 Y dX6_ruleAt_35 rfl ?_
        refine y_iconst 36 Y dX6_ruleAt_36 rfl ?_
        refine y_iconst 37 Y dX6_ruleAt_37 rfl ?_
        refine y_calls 38 Y (as := [mi v2, mi 0, mi 5]) [] dX6_ruleAt_38 rfl rfl rfl rfl rfl h (fun r S12 hq hI hr => ?_)
        obtain ⟨v13, rfl, h⟩ := Qi_ok hq
        replace h := h hI (mokI (hr _ rfl))
        clear hq hr
        refine y_if 41 63 Y dX6_ruleAt_41 rfl rfl (fun c => ?_) (fun c => ?_)
        · replace h := h.1 c
          refine y_iconst 63 Y dX6_ruleAt_63 rfl ?_
          exact y_iret 64 Y dX6_ruleAt_64 rfl h
        · replace h := h.2 c
          refine y_aload_n 44 Y dX6_ruleAt_44 rfl ?_
          refine y_geta 45 Y 7 dX6_ruleAt_45 rfl rfl ?_
          refine y_iload_n 48 Y dX6_ruleAt_48 rfl ?_
          obtain ⟨o14, h⟩ := h
          obtain ⟨o15, h⟩ := h
          refine y_iald 49 Y dX6_ruleAt_49 rfl rfl o14 o15 (fun _ => ?_)
          refine y_iconst 50 Y dX6_ruleAt_50 rfl ?_
          refine y_icmp 51 63 Y dX6_ruleAt_51 rfl rfl (fun c => ?_) (fun c => ?_)
          · replace h := h.1 c
            refine y_iconst 63 Y dX6_ruleAt_63 rfl ?_
            exact y_iret 64 Y dX6_ruleAt_64 rfl h
          · replace h := h.2 c
            refine y_aload_n 54 Y dX6_ruleAt_54 rfl ?_
            refine y_iload_n 55 Y dX6_ruleAt_55 rfl ?_
            refine y_iload_n 56 Y dX6_ruleAt_56 rfl ?_
            refine y_call 57 Y (as := [mi a1, mi v2]) [] dX6_ruleAt_57 rfl rfl rfl rfl rfl h (fun r S16 hq hI hr => ?_)
            obtain ⟨v17, rfl, h⟩ := Qi_ok hq
            replace h := h hI (mokI (hr _ rfl))
            clear hq hr
            refine y_goto 60 64 Y dX6_ruleAt_60 rfl rfl ?_
            exact y_iret 64 Y dX6_ruleAt_64 rfl h
      · replace h := h.2 c
        refine y_aload_n 24 Y dX6_ruleAt_24 rfl ?_
        refine y_iload_n 25 Y dX6_ruleAt_25 rfl ?_
        refine y_iload_n 26 Y dX6_ruleAt_26 rfl ?_
        refine y_iconst 27 Y dX6_ruleAt_27 rfl ?_
        obtain ⟨o18, h⟩ := h
        refine y_iadd 28 Y dX6_ruleAt_28 o18 ?_
        refine y_call 29 Y (as := [mi a1, mi (a1 + 2)]) [] dX6_ruleAt_29 rfl rfl rfl rfl rfl h (fun r S19 hq hI _ => ?_)
        obtain ⟨rfl, h⟩ := Qv_ok hq
        replace h := h hI
        clear hq
        refine y_bipush 32 Y dX6_ruleAt_32 rfl ?_
        exact y_iret 34 Y dX6_ruleAt_34 rfl h
  · intro n pc L st T hi
    exact hi.elim
set_option maxHeartbeats 4000000 in
theorem of_storeWide {g : mG} {S : mS} {a1 : Int} {Qp : Option mV → mS → Prop}
    (hE : mI S → (-2147483648 ≤ a1 ∧ a1 ≤ 2147483647) → CX_copy g [mt, mi 0, mi 8] S (Qv fun S1 => mI S1 → CX_copy g [mt, mi 1, mi 9] S1 (Qv fun S2 => mI S2 → CX_store g [mt, mi a1, mi (S2 69 0)] S2 (Qi fun v4 S3 => mI S3 → (-2147483648 ≤ v4 ∧ v4 ≤ 2147483647) → (v4 = 0 ∨ v4 = 1) ∧ Qp (some (mi v4)) S3))))
    : CX_storeWide g [mt, mi a1] S Qp := by
  refine cm_y ⟨by decide, rfl⟩ (by simp [mcat]) (by simp) (fun _ _ _ _ _ => False) ?_ ?_
  · intro ha hS P Y Wk hIc
    have h := hE hS (mokI (ha (mi a1) (by simp)))
    clear hE ha
    refine y_aload_n 0 Y dX6_storeWide_0 rfl ?_
    refine y_iconst 1 Y dX6_storeWide_1 rfl ?_
    refine y_bipush 2 Y dX6_storeWide_2 rfl ?_
    refine y_call 4 Y (as := [mi 0, mi 8]) [] dX6_storeWide_4 rfl rfl rfl rfl rfl h (fun r S1 hq hI _ => ?_)
    obtain ⟨rfl, h⟩ := Qv_ok hq
    replace h := h hI
    clear hq
    refine y_aload_n 7 Y dX6_storeWide_7 rfl ?_
    refine y_iconst 8 Y dX6_storeWide_8 rfl ?_
    refine y_bipush 9 Y dX6_storeWide_9 rfl ?_
    refine y_call 11 Y (as := [mi 1, mi 9]) [] dX6_storeWide_11 rfl rfl rfl rfl rfl h (fun r S2 hq hI _ => ?_)
    obtain ⟨rfl, h⟩ := Qv_ok hq
    replace h := h hI
    clear hq
    refine y_aload_n 14 Y dX6_storeWide_14 rfl ?_
    refine y_iload_n 15 Y dX6_storeWide_15 rfl ?_
    refine y_aload_n 16 Y dX6_storeWide_16 rfl ?_
    refine y_getf 17 Y 69 dX6_storeWide_17 rfl rfl (fun _ => ?_)
    refine y_call 20 Y (as := [mi a1, mi (S2 69 0)]) [] dX6_storeWide_20 rfl rfl rfl rfl rfl h (fun r S3 hq hI hr => ?_)
    obtain ⟨v4, rfl, h⟩ := Qi_ok hq
    replace h := h hI (mokI (hr _ rfl))
    clear hq hr
    exact y_zret 23 Y dX6_storeWide_23 rfl h.1 h.2
  · intro n pc L st T hi
    exact hi.elim
set_option maxHeartbeats 4000000 in
theorem of_beginSum {g : mG} {S : mS} {a1 a2 : Int} {Qp : Option mV → mS → Prop}
    (hE : mI S → (-2147483648 ≤ a1 ∧ a1 ≤ 2147483647) → (-2147483648 ≤ a2 ∧ a2 ≤ 2147483647) → CX_top g [mt] S (Qi fun v2 S1 => mI S1 → (-2147483648 ≤ v2 ∧ v2 ≤ 2147483647) → (-2147483648 ≤ ((v2 - 1) : Int) ∧ (v2 - 1) ≤ 2147483647) ∧ CX_top g [mt] S1 (Qi fun v5 S4 => mI S4 → (-2147483648 ≤ v5 ∧ v5 ≤ 2147483647) → CX_isWhole g [mt, mi (v2 - 1)] S4 (Qi fun v7 S6 => mI S6 → (-2147483648 ≤ v7 ∧ v7 ≤ 2147483647) → ((v7 = 0) → Qp (some (mi 2)) S6) ∧ (¬ (v7 = 0) → CX_isWhole g [mt, mi v5] S6 (Qi fun v9 S8 => mI S8 → (-2147483648 ≤ v9 ∧ v9 ≤ 2147483647) → ((v9 ≠ 0) → CX_compareValues g [mt, mi (v2 - 1), mi v5] S8 (Qi fun v11 S10 => mI S10 → (-2147483648 ≤ v11 ∧ v11 ≤ 2147483647) → ((v11 ≤ 0) → CX_addValues g [mt, mi 3600, mi v5, mi (v2 - 1), mi (-1)] S10 (Qi fun v13 S12 => mI S12 → (-2147483648 ≤ v13 ∧ v13 ≤ 2147483647) → ((v13 = 0) → Qp (some (mi 3)) S12) ∧ (¬ (v13 = 0) → CX_small g [mt, mi 3600] S12 (Qi fun v15 S14 => mI S14 → (-2147483648 ≤ v15 ∧ v15 ≤ 2147483647) → (-2147483648 ≤ ((v15 + 1) : Int) ∧ (v15 + 1) ≤ 2147483647) ∧ (((v15 + 1) ≤ 30) → (0 ≤ a1) ∧ (a1 < 800) ∧ (-2147483648 ≤ ((a2 + 1) : Int) ∧ (a2 + 1) ≤ 2147483647) ∧ (0 ≤ (a2 + 1)) ∧ ((a2 + 1) < 20300) ∧ (0 ≤ (S14 60 0)) ∧ ((S14 60 0) < 500) ∧ (-2147483648 ≤ ((3 * (S14 60 0)) : Int) ∧ (3 * (S14 60 0)) ≤ 2147483647) ∧ (-2147483648 ≤ ((1000 + (3 * (S14 60 0))) : Int) ∧ (1000 + (3 * (S14 60 0))) ≤ 2147483647) ∧ CX_copyValue g [mt, mi (1000 + (3 * (S14 60 0))), mi (v2 - 1)] (mup (mup (mup (mup S14 51 a1 (S14 60 0)) 57 (S14 60 0) (S14 5 (a2 + 1))) 58 (S14 60 0) 0) 59 (S14 60 0) (S14 50 a1)) (Qv fun S26 => mI S26 → (-2147483648 ≤ (((S26 60 0) + 1) : Int) ∧ ((S26 60 0) + 1) ≤ 2147483647) ∧ (-2147483648 ≤ (((S26 61 0) - 1) : Int) ∧ ((S26 61 0) - 1) ≤ 2147483647) ∧ CX_top g [mt] (mup (mup S26 60 0 ((S26 60 0) + 1)) 61 0 ((S26 61 0) - 1)) (Qi fun v30 S29 => mI S29 → (-2147483648 ≤ v30 ∧ v30 ≤ 2147483647) → CX_setInt g [mt, mi v30, mi 0] S29 (Qv fun S31 => mI S31 → CX_child g [mt, mi a2, mi 3] (mup (mup S31 55 a1 (v15 + 1)) 49 a1 3) (Qi fun v33 S32 => mI S32 → (-2147483648 ≤ v33 ∧ v33 ≤ 2147483647) → CX_enter g [mt, mi v33, mi (S32 51 a1)] S32 (Qv fun S34 => mI S34 → Qp (some (mi 0)) S34)))))) ∧ (¬ ((v15 + 1) ≤ 30) → Qp (some (mi 3)) S14))))) ∧ (¬ (v11 ≤ 0) → (-2147483648 ≤ (((S10 61 0) - 1) : Int) ∧ ((S10 61 0) - 1) ≤ 2147483647) ∧ CX_top g [mt] (mup S10 61 0 ((S10 61 0) - 1)) (Qi fun v37 S36 => mI S36 → (-2147483648 ≤ v37 ∧ v37 ≤ 2147483647) → CX_setInt g [mt, mi v37, mi 0] S36 (Qv fun S38 => mI S38 → (-2147483648 ≤ (((S38 56 0) - 1) : Int) ∧ ((S38 56 0) - 1) ≤ 2147483647) ∧ Qp (some (mi 0)) (mup S38 56 0 ((S38 56 0) - 1))))))) ∧ (¬ (v9 ≠ 0) → Qp (some (mi 2)) S8)))))))
    : CX_beginSum g [mt, mi a1, mi a2] S Qp := by
  refine cm_y ⟨by decide, rfl⟩ (by simp [mcat]) (by simp) (fun _ _ _ _ _ => False) ?_ ?_
  · intro ha hS P Y Wk hIc
    have h := hE hS (mokI (ha (mi a1) (by simp))) (mokI (ha (mi a2) (by simp)))
    clear hE ha
    refine y_aload_n 0 Y dX6_beginSum_0 rfl ?_
    refine y_call 1 Y (as := []) [] dX6_beginSum_1 rfl rfl rfl rfl rfl h (fun r S1 hq hI hr => ?_)
    obtain ⟨v2, rfl, h⟩ := Qi_ok hq
    replace h := h hI (mokI (hr _ rfl))
    clear hq hr
    refine y_iconst 4 Y dX6_beginSum_4 rfl ?_
    obtain ⟨o3, h⟩ := h
    refine y_isub 5 Y dX6_beginSum_5 o3 ?_
    refine y_istore_n 6 Y [some mt, some (mi a1), some (mi a2), some (mi (v2 - 1)), none, none, none] dX6_beginSum_6 rfl rfl ?_
    refine y_aload_n 7 Y dX6_beginSum_7 rfl ?_
    refine y_call 8 Y (as := []) [] dX6_beginSum_8 rfl rfl rfl rfl rfl h (fun r S4 hq hI hr => ?_)
    obtain ⟨v5, rfl, h⟩ := Qi_ok hq
    replace h := h hI (mokI (hr _ rfl))
    clear hq hr
    refine y_istore 11 Y [some mt, some (mi a1), some (mi a2), some (mi (v2 - 1)), some (mi v5), none, none] dX6_beginSum_11 rfl rfl ?_
    refine y_aload_n 13 Y dX6_beginSum_13 rfl ?_
    refine y_iload_n 14 Y dX6_beginSum_14 rfl ?_
    refine y_call 15 Y (as := [mi (v2 - 1)]) [] dX6_beginSum_15 rfl rfl rfl rfl rfl h (fun r S6 hq hI hr => ?_)
    obtain ⟨v7, rfl, h⟩ := Qi_ok hq
    replace h := h hI (mokI (hr _ rfl))
    clear hq hr
    refine y_if 18 30 Y dX6_beginSum_18 rfl rfl (fun c => ?_) (fun c => ?_)
    · replace h := h.1 c
      refine y_iconst 30 Y dX6_beginSum_30 rfl ?_
      exact y_iret 31 Y dX6_beginSum_31 rfl h
    · replace h := h.2 c
      refine y_aload_n 21 Y dX6_beginSum_21 rfl ?_
      refine y_iload 22 Y dX6_beginSum_22 rfl ?_
      refine y_call 24 Y (as := [mi v5]) [] dX6_beginSum_24 rfl rfl rfl rfl rfl h (fun r S8 hq hI hr => ?_)
      obtain ⟨v9, rfl, h⟩ := Qi_ok hq
      replace h := h hI (mokI (hr _ rfl))
      clear hq hr
      refine y_if 27 32 Y dX6_beginSum_27 rfl rfl (fun c => ?_) (fun c => ?_)
      · replace h := h.1 c
        refine y_aload_n 32 Y dX6_beginSum_32 rfl ?_
        refine y_iload_n 33 Y dX6_beginSum_33 rfl ?_
        refine y_iload 34 Y dX6_beginSum_34 rfl ?_
        refine y_call 36 Y (as := [mi (v2 - 1), mi v5]) [] dX6_beginSum_36 rfl rfl rfl rfl rfl h (fun r S10 hq hI hr => ?_)
        obtain ⟨v11, rfl, h⟩ := Qi_ok hq
        replace h := h hI (mokI (hr _ rfl))
        clear hq hr
        refine y_if 39 73 Y dX6_beginSum_39 rfl rfl (fun c => ?_) (fun c => ?_)
        · replace h := h.1 c
          refine y_aload_n 73 Y dX6_beginSum_73 rfl ?_
          refine y_sipush 74 Y dX6_beginSum_74 rfl ?_
          refine y_iload 77 Y dX6_beginSum_77 rfl ?_
          refine y_iload_n 79 Y dX6_beginSum_79 rfl ?_
          refine y_iconst 80 Y dX6_beginSum_80 rfl ?_
          refine y_call 81 Y (as := [mi 3600, mi v5, mi (v2 - 1), mi (-1)]) [] dX6_beginSum_81 rfl rfl rfl rfl rfl h (fun r S12 hq hI hr => ?_)
          obtain ⟨v13, rfl, h⟩ := Qi_ok hq
          replace h := h hI (mokI (hr _ rfl))
          clear hq hr
          refine y_istore 84 Y [some mt, some (mi a1), some (mi a2), some (mi (v2 - 1)), some (mi v5), some (mi v13), none] dX6_beginSum_84 rfl rfl ?_
          refine y_iload 86 Y dX6_beginSum_86 rfl ?_
          refine y_if 88 103 Y dX6_beginSum_88 rfl rfl (fun c => ?_) (fun c => ?_)
          · replace h := h.1 c
            refine y_bipush 103 Y dX6_beginSum_103 rfl ?_
            refine y_istore 105 Y [some mt, some (mi a1), some (mi a2), some (mi (v2 - 1)), some (mi v5), some (mi v13), some (mi 31)] dX6_beginSum_105 rfl rfl ?_
            refine y_iload 107 Y dX6_beginSum_107 rfl ?_
            refine y_bipush 109 Y dX6_beginSum_109 rfl ?_
            refine y_icmp 111 116 Y dX6_beginSum_111 rfl rfl (fun c => absurd c (show ¬ ((31 : Int) ≤ 30) by decide)) (fun _ => ?_)
            refine y_iconst 114 Y dX6_beginSum_114 rfl ?_
            exact y_iret 115 Y dX6_beginSum_115 rfl h
          · replace h := h.2 c
            refine y_aload_n 91 Y dX6_beginSum_91 rfl ?_
            refine y_sipush 92 Y dX6_beginSum_92 rfl ?_
            refine y_call 95 Y (as := [mi 3600]) [] dX6_beginSum_95 rfl rfl rfl rfl rfl h (fun r S14 hq hI hr => ?_)
            obtain ⟨v15, rfl, h⟩ := Qi_ok hq
            replace h := h hI (mokI (hr _ rfl))
            clear hq hr
            refine y_iconst 98 Y dX6_beginSum_98 rfl ?_
            obtain ⟨o16, h⟩ := h
            refine y_iadd 99 Y dX6_beginSum_99 o16 ?_
            refine y_goto 100 105 Y dX6_beginSum_100 rfl rfl ?_
            refine y_istore 105 Y [some mt, some (mi a1), some (mi a2), some (mi (v2 - 1)), some (mi v5), some (mi v13), some (mi (v15 + 1))] dX6_beginSum_105 rfl rfl ?_
            refine y_iload 107 Y dX6_beginSum_107 rfl ?_
            refine y_bipush 109 Y dX6_beginSum_109 rfl ?_
            refine y_icmp 111 116 Y dX6_beginSum_111 rfl rfl (fun c => ?_) (fun c => ?_)
            · replace h := h.1 c
              refine y_aload_n 116 Y dX6_beginSum_116 rfl ?_
              refine y_geta 117 Y 51 dX6_beginSum_117 rfl rfl ?_
              refine y_iload_n 120 Y dX6_beginSum_120 rfl ?_
              refine y_aload_n 121 Y dX6_beginSum_121 rfl ?_
              refine y_getf 122 Y 60 dX6_beginSum_122 rfl rfl (fun _ => ?_)
              obtain ⟨o17, h⟩ := h
              obtain ⟨o18, h⟩ := h
              refine y_iast 125 Y dX6_beginSum_125 rfl rfl o17 o18 ?_
              refine y_aload_n 126 Y dX6_beginSum_126 rfl ?_
              refine y_geta 127 Y 57 dX6_beginSum_127 rfl rfl ?_
              refine y_aload_n 130 Y dX6_beginSum_130 rfl ?_
              refine y_getf 131 Y 60 dX6_beginSum_131 rfl rfl (fun _ => ?_)
              refine y_aload_n 134 Y dX6_beginSum_134 rfl ?_
              refine y_geta 135 Y 5 dX6_beginSum_135 rfl rfl ?_
              refine y_iload_n 138 Y dX6_beginSum_138 rfl ?_
              refine y_iconst 139 Y dX6_beginSum_139 rfl ?_
              obtain ⟨o19, h⟩ := h
              refine y_iadd 140 Y dX6_beginSum_140 o19 ?_
              obtain ⟨o20, h⟩ := h
              obtain ⟨o21, h⟩ := h
              refine y_iald 141 Y dX6_beginSum_141 rfl rfl o20 o21 (fun _ => ?_)
              obtain ⟨o22, h⟩ := h
              obtain ⟨o23, h⟩ := h
              refine y_iast 142 Y dX6_beginSum_142 rfl rfl o22 o23 ?_
              refine y_aload_n 143 Y dX6_beginSum_143 rfl ?_
              refine y_geta 144 Y 58 dX6_beginSum_144 rfl rfl ?_
              refine y_aload_n 147 Y dX6_beginSum_147 rfl ?_
              refine y_getf 148 Y 60 dX6_beginSum_148 rfl rfl (fun _ => ?_)
              refine y_iconst 151 Y dX6_beginSum_151 rfl ?_
              refine y_iast 152 Y dX6_beginSum_152 rfl rfl o22 o23 ?_
              refine y_aload_n 153 Y dX6_beginSum_153 rfl ?_
              refine y_geta 154 Y 59 dX6_beginSum_154 rfl rfl ?_
              refine y_aload_n 157 Y dX6_beginSum_157 rfl ?_
              refine y_getf 158 Y 60 dX6_beginSum_158 rfl rfl (fun _ => ?_)
              refine y_aload_n 161 Y dX6_beginSum_161 rfl ?_
              refine y_geta 162 Y 50 dX6_beginSum_162 rfl rfl ?_
              refine y_iload_n 165 Y dX6_beginSum_165 rfl ?_
              refine y_iald 166 Y dX6_beginSum_166 rfl rfl o17 o18 (fun _ => ?_)
              refine y_iast 167 Y dX6_beginSum_167 rfl rfl o22 o23 ?_
              refine y_aload_n 168 Y dX6_beginSum_168 rfl ?_
              refine y_sipush 169 Y dX6_beginSum_169 rfl ?_
              refine y_iconst 172 Y dX6_beginSum_172 rfl ?_
              refine y_aload_n 173 Y dX6_beginSum_173 rfl ?_
              refine y_getf 174 Y 60 dX6_beginSum_174 rfl rfl (fun _ => ?_)
              obtain ⟨o24, h⟩ := h
              refine y_imul 177 Y dX6_beginSum_177 o24 ?_
              obtain ⟨o25, h⟩ := h
              refine y_iadd 178 Y dX6_beginSum_178 o25 ?_
              refine y_iload_n 179 Y dX6_beginSum_179 rfl ?_
              refine y_call 180 Y (as := [mi (1000 + (3 * (S14 60 0))), mi (v2 - 1)]) [] dX6_beginSum_180 rfl rfl rfl rfl rfl h (fun r S26 hq hI _ => ?_)
              obtain ⟨rfl, h⟩ := Qv_ok hq
              replace h := h hI
              clear hq
              refine y_aload_n 183 Y dX6_beginSum_183 rfl ?_
              refine y_dup 184 Y dX6_beginSum_184 rfl ?_
              refine y_getf 185 Y 60 dX6_beginSum_185 rfl rfl (fun _ => ?_)
              refine y_iconst 188 Y dX6_beginSum_188 rfl ?_
              obtain ⟨o27, h⟩ := h
              refine y_iadd 189 Y dX6_beginSum_189 o27 ?_
              refine y_putf 190 Y 60 dX6_beginSum_190 rfl rfl (fun q => absurd q (by decide)) ?_
              refine y_aload_n 193 Y dX6_beginSum_193 rfl ?_
              refine y_dup 194 Y dX6_beginSum_194 rfl ?_
              refine y_getf 195 Y 61 dX6_beginSum_195 rfl rfl (fun _ => ?_)
              refine y_iconst 198 Y dX6_beginSum_198 rfl ?_
              obtain ⟨o28, h⟩ := h
              refine y_isub 199 Y dX6_beginSum_199 o28 ?_
              refine y_putf 200 Y 61 dX6_beginSum_200 rfl rfl (fun q => absurd q (by decide)) ?_
              refine y_aload_n 203 Y dX6_beginSum_203 rfl ?_
              refine y_aload_n 204 Y dX6_beginSum_204 rfl ?_
              refine y_call 205 Y (as := []) [mt] dX6_beginSum_205 rfl rfl rfl rfl rfl h (fun r S29 hq hI hr => ?_)
              obtain ⟨v30, rfl, h⟩ := Qi_ok hq
              replace h := h hI (mokI (hr _ rfl))
              clear hq hr
              refine y_iconst 208 Y dX6_beginSum_208 rfl ?_
              refine y_call 209 Y (as := [mi v30, mi 0]) [] dX6_beginSum_209 rfl rfl rfl rfl rfl h (fun r S31 hq hI _ => ?_)
              obtain ⟨rfl, h⟩ := Qv_ok hq
              replace h := h hI
              clear hq
              refine y_aload_n 212 Y dX6_beginSum_212 rfl ?_
              refine y_geta 213 Y 55 dX6_beginSum_213 rfl rfl ?_
              refine y_iload_n 216 Y dX6_beginSum_216 rfl ?_
              refine y_iload 217 Y dX6_beginSum_217 rfl ?_
              refine y_iast 219 Y dX6_beginSum_219 rfl rfl o17 o18 ?_
              refine y_aload_n 220 Y dX6_beginSum_220 rfl ?_
              refine y_geta 221 Y 49 dX6_beginSum_221 rfl rfl ?_
              refine y_iload_n 224 Y dX6_beginSum_224 rfl ?_
              refine y_iconst 225 Y dX6_beginSum_225 rfl ?_
              refine y_iast 226 Y dX6_beginSum_226 rfl rfl o17 o18 ?_
              refine y_aload_n 227 Y dX6_beginSum_227 rfl ?_
              refine y_aload_n 228 Y dX6_beginSum_228 rfl ?_
              refine y_iload_n 229 Y dX6_beginSum_229 rfl ?_
              refine y_iconst 230 Y dX6_beginSum_230 rfl ?_
              refine y_call 231 Y (as := [mi a2, mi 3]) [mt] dX6_beginSum_231 rfl rfl rfl rfl rfl h (fun r S32 hq hI hr => ?_)
              obtain ⟨v33, rfl, h⟩ := Qi_ok hq
              replace h := h hI (mokI (hr _ rfl))
              clear hq hr
              refine y_aload_n 234 Y dX6_beginSum_234 rfl ?_
              refine y_geta 235 Y 51 dX6_beginSum_235 rfl rfl ?_
              refine y_iload_n 238 Y dX6_beginSum_238 rfl ?_
              refine y_iald 239 Y dX6_beginSum_239 rfl rfl o17 o18 (fun _ => ?_)
              refine y_call 240 Y (as := [mi v33, mi (S32 51 a1)]) [] dX6_beginSum_240 rfl rfl rfl rfl rfl h (fun r S34 hq hI _ => ?_)
              obtain ⟨rfl, h⟩ := Qv_ok hq
              replace h := h hI
              clear hq
              refine y_iconst 243 Y dX6_beginSum_243 rfl ?_
              exact y_iret 244 Y dX6_beginSum_244 rfl h
            · replace h := h.2 c
              refine y_iconst 114 Y dX6_beginSum_114 rfl ?_
              exact y_iret 115 Y dX6_beginSum_115 rfl h
        · replace h := h.2 c
          refine y_aload_n 42 Y dX6_beginSum_42 rfl ?_
          refine y_dup 43 Y dX6_beginSum_43 rfl ?_
          refine y_getf 44 Y 61 dX6_beginSum_44 rfl rfl (fun _ => ?_)
          refine y_iconst 47 Y dX6_beginSum_47 rfl ?_
          obtain ⟨o35, h⟩ := h
          refine y_isub 48 Y dX6_beginSum_48 o35 ?_
          refine y_putf 49 Y 61 dX6_beginSum_49 rfl rfl (fun q => absurd q (by decide)) ?_
          refine y_aload_n 52 Y dX6_beginSum_52 rfl ?_
          refine y_aload_n 53 Y dX6_beginSum_53 rfl ?_
          refine y_call 54 Y (as := []) [mt] dX6_beginSum_54 rfl rfl rfl rfl rfl h (fun r S36 hq hI hr => ?_)
          obtain ⟨v37, rfl, h⟩ := Qi_ok hq
          replace h := h hI (mokI (hr _ rfl))
          clear hq hr
          refine y_iconst 57 Y dX6_beginSum_57 rfl ?_
          refine y_call 58 Y (as := [mi v37, mi 0]) [] dX6_beginSum_58 rfl rfl rfl rfl rfl h (fun r S38 hq hI _ => ?_)
          obtain ⟨rfl, h⟩ := Qv_ok hq
          replace h := h hI
          clear hq
          refine y_aload_n 61 Y dX6_beginSum_61 rfl ?_
          refine y_dup 62 Y dX6_beginSum_62 rfl ?_
          refine y_getf 63 Y 56 dX6_beginSum_63 rfl rfl (fun _ => ?_)
          refine y_iconst 66 Y dX6_beginSum_66 rfl ?_
          obtain ⟨o39, h⟩ := h
          refine y_isub 67 Y dX6_beginSum_67 o39 ?_
          refine y_putf 68 Y 56 dX6_beginSum_68 rfl rfl (fun q => absurd q (by decide)) ?_
          refine y_iconst 71 Y dX6_beginSum_71 rfl ?_
          exact y_iret 72 Y dX6_beginSum_72 rfl h
      · replace h := h.2 c
        refine y_iconst 30 Y dX6_beginSum_30 rfl ?_
        exact y_iret 31 Y dX6_beginSum_31 rfl h
  · intro n pc L st T hi
    exact hi.elim
set_option maxHeartbeats 4000000 in
theorem of_factorial {g : mG} {S : mS} {a1 a2 : Int} {Qp : Option mV → mS → Prop} (I41 : Nat → Int → Int → Int → mS → Prop)
    (hE : mI S → (-2147483648 ≤ a1 ∧ a1 ≤ 2147483647) → (-2147483648 ≤ a2 ∧ a2 ≤ 2147483647) → CX_isWhole g [mt, mi a2] S (Qi fun v2 S1 => mI S1 → (-2147483648 ≤ v2 ∧ v2 ≤ 2147483647) → ((v2 = 0) → Qp (some (mi 2)) S1) ∧ (¬ (v2 = 0) → CX_sign_2 g [mt, mi a2] S1 (Qi fun v4 S3 => mI S3 → (-2147483648 ≤ v4 ∧ v4 ≤ 2147483647) → ((0 ≤ v4) → CX_small g [mt, mi a2] S3 (Qi fun v6 S5 => mI S5 → (-2147483648 ≤ v6 ∧ v6 ≤ 2147483647) → ((v6 ≤ 30) → CX_setInt g [mt, mi a1, mi 1] S5 (Qv fun S7 => mI S7 → (∃ n1, I41 n1 a1 v6 2 S7))) ∧ (¬ (v6 ≤ 30) → Qp (some (mi 3)) S5))) ∧ (¬ (0 ≤ v4) → Qp (some (mi 2)) S3)))))
    (h41 : ∀ (n : Nat) (l1 l3 l4 : Int) (T : mS), mI T → (-2147483648 ≤ l1 ∧ l1 ≤ 2147483647) → (-2147483648 ≤ l3 ∧ l3 ≤ 2147483647) → (-2147483648 ≤ l4 ∧ l4 ≤ 2147483647) → I41 n l1 l3 l4 T → ((l3 < l4) → Qp (some (mi 0)) T) ∧ (¬ (l3 < l4) → CX_setInt g [mt, mi 3600, mi l4] T (Qv fun S1 => mI S1 → CX_multiplyValues g [mt, mi l1, mi l1, mi 3600] S1 (Qi fun v3 S2 => mI S2 → (-2147483648 ≤ v3 ∧ v3 ≤ 2147483647) → (-2147483648 ≤ ((l4 + 1) : Int) ∧ (l4 + 1) ≤ 2147483647) ∧ (∃ n1, n1 < n ∧ I41 n1 l1 l3 (l4 + 1) S2)))))
    : CX_factorial g [mt, mi a1, mi a2] S Qp := by
  refine cm_y ⟨by decide, rfl⟩ (by simp [mcat]) (by simp) (fun n pc L st S => (pc = 41 ∧ ∃ (l1 : Int) (l3 : Int) (l4 : Int), L = [some mt, some (mi l1), none, some (mi l3), some (mi l4)] ∧ st = [] ∧ I41 n l1 l3 l4 S)) ?_ ?_
  · intro ha hS P Y Wk hIc
    have h := hE hS (mokI (ha (mi a1) (by simp))) (mokI (ha (mi a2) (by simp)))
    clear hE ha h41
    refine y_aload_n 0 Y dX6_factorial_0 rfl ?_
    refine y_iload_n 1 Y dX6_factorial_1 rfl ?_
    refine y_call 2 Y (as := [mi a2]) [] dX6_factorial_2 rfl rfl rfl rfl rfl h (fun r S1 hq hI hr => ?_)
    obtain ⟨v2, rfl, h⟩ := Qi_ok hq
    replace h := h hI (mokI (hr _ rfl))
    clear hq hr
    refine y_if 5 16 Y dX6_factorial_5 rfl rfl (fun c => ?_) (fun c => ?_)
    · replace h := h.1 c
      refine y_iconst 16 Y dX6_factorial_16 rfl ?_
      exact y_iret 17 Y dX6_factorial_17 rfl h
    · replace h := h.2 c
      refine y_aload_n 8 Y dX6_factorial_8 rfl ?_
      refine y_iload_n 9 Y dX6_factorial_9 rfl ?_
      refine y_call 10 Y (as := [mi a2]) [] dX6_factorial_10 rfl rfl rfl rfl rfl h (fun r S3 hq hI hr => ?_)
      obtain ⟨v4, rfl, h⟩ := Qi_ok hq
      replace h := h hI (mokI (hr _ rfl))
      clear hq hr
      refine y_if 13 18 Y dX6_factorial_13 rfl rfl (fun c => ?_) (fun c => ?_)
      · replace h := h.1 c
        refine y_aload_n 18 Y dX6_factorial_18 rfl ?_
        refine y_iload_n 19 Y dX6_factorial_19 rfl ?_
        refine y_call 20 Y (as := [mi a2]) [] dX6_factorial_20 rfl rfl rfl rfl rfl h (fun r S5 hq hI hr => ?_)
        obtain ⟨v6, rfl, h⟩ := Qi_ok hq
        replace h := h hI (mokI (hr _ rfl))
        clear hq hr
        refine y_istore_n 23 Y [some mt, some (mi a1), some (mi a2), some (mi v6), none] dX6_factorial_23 rfl rfl ?_
        refine y_iload_n 24 Y dX6_factorial_24 rfl ?_
        refine y_bipush 25 Y dX6_factorial_25 rfl ?_
        refine y_icmp 27 32 Y dX6_factorial_27 rfl rfl (fun c => ?_) (fun c => ?_)
        · replace h := h.1 c
          refine y_aload_n 32 Y dX6_factorial_32 rfl ?_
          refine y_iload_n 33 Y dX6_factorial_33 rfl ?_
          refine y_iconst 34 Y dX6_factorial_34 rfl ?_
          refine y_call 35 Y (as := [mi a1, mi 1]) [] dX6_factorial_35 rfl rfl rfl rfl rfl h (fun r S7 hq hI _ => ?_)
          obtain ⟨rfl, h⟩ := Qv_ok hq
          replace h := h hI
          clear hq
          refine y_iconst 38 Y dX6_factorial_38 rfl ?_
          refine y_istore 39 Y [some mt, some (mi a1), some (mi a2), some (mi v6), some (mi 2)] dX6_factorial_39 rfl rfl ?_
          obtain ⟨n1, h⟩ := h
          exact Wk 41 _ [some mt, some (mi a1), none, some (mi v6), some (mi 2)] _ _ ⟨rfl, ⟨rfl, ⟨rfl, ⟨rfl, trivial⟩⟩⟩⟩ (hIc n1 _ _ _ _ ((⟨rfl, _, _, _, rfl, rfl, h⟩)))
        · replace h := h.2 c
          refine y_iconst 30 Y dX6_factorial_30 rfl ?_
          exact y_iret 31 Y dX6_factorial_31 rfl h
      · replace h := h.2 c
        refine y_iconst 16 Y dX6_factorial_16 rfl ?_
        exact y_iret 17 Y dX6_factorial_17 rfl h
  · intro n pc L st T hi hS hL P Y Wk hIc
    clear hE
    rcases hi with ⟨rfl, l1, l3, l4, rfl, rfl, hi⟩
    · have h := h41 n l1 l3 l4 T hS (hL 1 _ rfl) (hL 3 _ rfl) (hL 4 _ rfl) hi
      clear hL hi h41
      refine y_iload 41 Y dX6_factorial_41 rfl ?_
      refine y_iload_n 43 Y dX6_factorial_43 rfl ?_
      refine y_icmp 44 72 Y dX6_factorial_44 rfl rfl (fun c => ?_) (fun c => ?_)
      · replace h := h.1 c
        refine y_iconst 72 Y dX6_factorial_72 rfl ?_
        exact y_iret 73 Y dX6_factorial_73 rfl h
      · replace h := h.2 c
        refine y_aload_n 47 Y dX6_factorial_47 rfl ?_
        refine y_sipush 48 Y dX6_factorial_48 rfl ?_
        refine y_iload 51 Y dX6_factorial_51 rfl ?_
        refine y_call 53 Y (as := [mi 3600, mi l4]) [] dX6_factorial_53 rfl rfl rfl rfl rfl h (fun r S1 hq hI _ => ?_)
        obtain ⟨rfl, h⟩ := Qv_ok hq
        replace h := h hI
        clear hq
        refine y_aload_n 56 Y dX6_factorial_56 rfl ?_
        refine y_iload_n 57 Y dX6_factorial_57 rfl ?_
        refine y_iload_n 58 Y dX6_factorial_58 rfl ?_
        refine y_sipush 59 Y dX6_factorial_59 rfl ?_
        refine y_call 62 Y (as := [mi l1, mi l1, mi 3600]) [] dX6_factorial_62 rfl rfl rfl rfl rfl h (fun r S2 hq hI hr => ?_)
        obtain ⟨v3, rfl, h⟩ := Qi_ok hq
        replace h := h hI (mokI (hr _ rfl))
        clear hq hr
        refine y_pop 65 Y dX6_factorial_65 rfl ?_
        obtain ⟨o4, h⟩ := h
        refine y_iinc 66 Y [some mt, some (mi l1), none, some (mi l3), some (mi (l4 + 1))] dX6_factorial_66 rfl rfl o4 ?_
        refine y_goto 69 41 Y dX6_factorial_69 rfl rfl ?_
        obtain ⟨n1, hn, h⟩ := h
        exact Wk 41 _ [some mt, some (mi l1), none, some (mi l3), some (mi (l4 + 1))] _ _ ⟨rfl, ⟨rfl, ⟨rfl, ⟨rfl, trivial⟩⟩⟩⟩ (hIc n1 _ _ _ _ hn ((⟨rfl, _, _, _, rfl, rfl, h⟩)))
set_option maxHeartbeats 4000000 in
theorem of_faultOf {g : mG} {S : mS}  {Qp : Option mV → mS → Prop}
    (hE : mI S → CX_lex g [mt] S (Qv fun S1 => mI S1 → CX_parse g [mt] S1 (Qi fun v3 S2 => mI S2 → (-2147483648 ≤ v3 ∧ v3 ≤ 2147483647) → ((v3 ≠ (-1)) → (((S2 25 0) ≤ v3) → Qp (some (mi (S2 19 0))) S2) ∧ (¬ ((S2 25 0) ≤ v3) → (0 ≤ v3) ∧ (v3 < 1000) ∧ Qp (some (mi (S2 22 v3))) S2)) ∧ (¬ (v3 ≠ (-1)) → (((S2 26 0) = 0) → Qp (some (mi (-1))) S2) ∧ (¬ ((S2 26 0) = 0) → Qp (some (mi (S2 19 0))) S2)))))
    : CX_faultOf g [mt] S Qp := by
  refine cm_y ⟨by decide, rfl⟩ (by simp [mcat]) (by simp) (fun _ _ _ _ _ => False) ?_ ?_
  · intro ha hS P Y Wk hIc
    have h := hE hS
    clear hE ha
    refine y_aload_n 0 Y dX6_faultOf_0 rfl ?_
    refine y_call 1 Y (as := []) [] dX6_faultOf_1 rfl rfl rfl rfl rfl h (fun r S1 hq hI _ => ?_)
    obtain ⟨rfl, h⟩ := Qv_ok hq
    replace h := h hI
    clear hq
    refine y_aload_n 4 Y dX6_faultOf_4 rfl ?_
    refine y_call 5 Y (as := []) [] dX6_faultOf_5 rfl rfl rfl rfl rfl h (fun r S2 hq hI hr => ?_)
    obtain ⟨v3, rfl, h⟩ := Qi_ok hq
    replace h := h hI (mokI (hr _ rfl))
    clear hq hr
    refine y_istore_n 8 Y [some mt, some (mi v3)] dX6_faultOf_8 rfl rfl ?_
    refine y_iload_n 9 Y dX6_faultOf_9 rfl ?_
    refine y_iconst 10 Y dX6_faultOf_10 rfl ?_
    refine y_icmp 11 32 Y dX6_faultOf_11 rfl rfl (fun c => ?_) (fun c => ?_)
    · replace h := h.1 c
      refine y_iload_n 32 Y dX6_faultOf_32 rfl ?_
      refine y_aload_n 33 Y dX6_faultOf_33 rfl ?_
      refine y_getf 34 Y 25 dX6_faultOf_34 rfl rfl (fun _ => ?_)
      refine y_icmp 37 49 Y dX6_faultOf_37 rfl rfl (fun c => ?_) (fun c => ?_)
      · replace h := h.1 c
        refine y_aload_n 49 Y dX6_faultOf_49 rfl ?_
        refine y_getf 50 Y 19 dX6_faultOf_50 rfl rfl (fun _ => ?_)
        exact y_iret 53 Y dX6_faultOf_53 rfl h
      · replace h := h.2 c
        refine y_aload_n 40 Y dX6_faultOf_40 rfl ?_
        refine y_geta 41 Y 22 dX6_faultOf_41 rfl rfl ?_
        refine y_iload_n 44 Y dX6_faultOf_44 rfl ?_
        obtain ⟨o4, h⟩ := h
        obtain ⟨o5, h⟩ := h
        refine y_iald 45 Y dX6_faultOf_45 rfl rfl o4 o5 (fun _ => ?_)
        refine y_goto 46 53 Y dX6_faultOf_46 rfl rfl ?_
        exact y_iret 53 Y dX6_faultOf_53 rfl h
    · replace h := h.2 c
      refine y_aload_n 14 Y dX6_faultOf_14 rfl ?_
      refine y_getf 15 Y 26 dX6_faultOf_15 rfl rfl (fun _ => ?_)
      refine y_if 18 28 Y dX6_faultOf_18 rfl rfl (fun c => ?_) (fun c => ?_)
      · replace h := h.1 c
        refine y_iconst 28 Y dX6_faultOf_28 rfl ?_
        refine y_goto 29 53 Y dX6_faultOf_29 rfl rfl ?_
        exact y_iret 53 Y dX6_faultOf_53 rfl h
      · replace h := h.2 c
        refine y_aload_n 21 Y dX6_faultOf_21 rfl ?_
        refine y_getf 22 Y 19 dX6_faultOf_22 rfl rfl (fun _ => ?_)
        refine y_goto 25 53 Y dX6_faultOf_25 rfl rfl ?_
        exact y_iret 53 Y dX6_faultOf_53 rfl h
  · intro n pc L st T hi
    exact hi.elim
set_option maxHeartbeats 4000000 in
theorem of_goOnSum {g : mG} {S : mS} {a1 a2 : Int} {Qp : Option mV → mS → Prop}
    (hE : mI S → (-2147483648 ≤ a1 ∧ a1 ≤ 2147483647) → (-2147483648 ≤ a2 ∧ a2 ≤ 2147483647) → CX_top g [mt] S (Qi fun v2 S1 => mI S1 → (-2147483648 ≤ v2 ∧ v2 ≤ 2147483647) → (-2147483648 ≤ ((v2 - 1) : Int) ∧ (v2 - 1) ≤ 2147483647) ∧ CX_top g [mt] S1 (Qi fun v5 S4 => mI S4 → (-2147483648 ≤ v5 ∧ v5 ≤ 2147483647) → (-2147483648 ≤ ((v5 - 1) : Int) ∧ (v5 - 1) ≤ 2147483647) ∧ CX_top g [mt] S4 (Qi fun v8 S7 => mI S7 → (-2147483648 ≤ v8 ∧ v8 ≤ 2147483647) → CX_addValues g [mt, mi (v2 - 1), mi (v5 - 1), mi v8, mi 1] S7 (Qi fun v10 S9 => mI S9 → (-2147483648 ≤ v10 ∧ v10 ≤ 2147483647) → (-2147483648 ≤ (((S9 61 0) - 1) : Int) ∧ ((S9 61 0) - 1) ≤ 2147483647) ∧ ((v10 ≠ 0) → (0 ≤ a1) ∧ (a1 < 800) ∧ (-2147483648 ≤ (((S9 55 a1) - 1) : Int) ∧ ((S9 55 a1) - 1) ≤ 2147483647) ∧ (-2147483648 ≤ ((mup S9 55 a1 ((S9 55 a1) - 1)) 55 a1) ∧ ((mup S9 55 a1 ((S9 55 a1) - 1)) 55 a1) ≤ 2147483647 → ((((mup S9 55 a1 ((S9 55 a1) - 1)) 55 a1) ≠ 0) → CX_setInt g [mt, mi 3600, mi 1] (mup (mup S9 61 0 ((S9 61 0) - 1)) 55 a1 ((S9 55 a1) - 1)) (Qv fun S15 => mI S15 → (-2147483648 ≤ ((3 * (S15 51 a1)) : Int) ∧ (3 * (S15 51 a1)) ≤ 2147483647) ∧ (-2147483648 ≤ ((1000 + (3 * (S15 51 a1))) : Int) ∧ (1000 + (3 * (S15 51 a1))) ≤ 2147483647) ∧ CX_addValues g [mt, mi (1000 + (3 * (S15 51 a1))), mi (1000 + (3 * (S15 51 a1))), mi 3600, mi 1] S15 (Qi fun v19 S18 => mI S18 → (-2147483648 ≤ v19 ∧ v19 ≤ 2147483647) → CX_child g [mt, mi a2, mi 3] S18 (Qi fun v21 S20 => mI S20 → (-2147483648 ≤ v21 ∧ v21 ≤ 2147483647) → CX_enter g [mt, mi v21, mi (S20 51 a1)] S20 (Qv fun S22 => mI S22 → Qp (some (mi 0)) S22))))) ∧ (¬ (((mup S9 55 a1 ((S9 55 a1) - 1)) 55 a1) ≠ 0) → (-2147483648 ≤ (((S9 56 0) - 1) : Int) ∧ ((S9 56 0) - 1) ≤ 2147483647) ∧ Qp (some (mi 0)) (mup (mup (mup (mup S9 61 0 ((S9 61 0) - 1)) 55 a1 ((S9 55 a1) - 1)) 60 0 (S9 51 a1)) 56 0 ((S9 56 0) - 1))))) ∧ (¬ (v10 ≠ 0) → Qp (some (mi 3)) (mup S9 61 0 ((S9 61 0) - 1))))))))
    : CX_goOnSum g [mt, mi a1, mi a2] S Qp := by
  refine cm_y ⟨by decide, rfl⟩ (by simp [mcat]) (by simp) (fun _ _ _ _ _ => False) ?_ ?_
  · intro ha hS P Y Wk hIc
    have h := hE hS (mokI (ha (mi a1) (by simp))) (mokI (ha (mi a2) (by simp)))
    clear hE ha
    refine y_aload_n 0 Y dX6_goOnSum_0 rfl ?_
    refine y_aload_n 1 Y dX6_goOnSum_1 rfl ?_
    refine y_call 2 Y (as := []) [mt] dX6_goOnSum_2 rfl rfl rfl rfl rfl h (fun r S1 hq hI hr => ?_)
    obtain ⟨v2, rfl, h⟩ := Qi_ok hq
    replace h := h hI (mokI (hr _ rfl))
    clear hq hr
    refine y_iconst 5 Y dX6_goOnSum_5 rfl ?_
    obtain ⟨o3, h⟩ := h
    refine y_isub 6 Y dX6_goOnSum_6 o3 ?_
    refine y_aload_n 7 Y dX6_goOnSum_7 rfl ?_
    refine y_call 8 Y (as := []) [mi (v2 - 1), mt] dX6_goOnSum_8 rfl rfl rfl rfl rfl h (fun r S4 hq hI hr => ?_)
    obtain ⟨v5, rfl, h⟩ := Qi_ok hq
    replace h := h hI (mokI (hr _ rfl))
    clear hq hr
    refine y_iconst 11 Y dX6_goOnSum_11 rfl ?_
    obtain ⟨o6, h⟩ := h
    refine y_isub 12 Y dX6_goOnSum_12 o6 ?_
    refine y_aload_n 13 Y dX6_goOnSum_13 rfl ?_
    refine y_call 14 Y (as := []) [mi (v5 - 1), mi (v2 - 1), mt] dX6_goOnSum_14 rfl rfl rfl rfl rfl h (fun r S7 hq hI hr => ?_)
    obtain ⟨v8, rfl, h⟩ := Qi_ok hq
    replace h := h hI (mokI (hr _ rfl))
    clear hq hr
    refine y_iconst 17 Y dX6_goOnSum_17 rfl ?_
    refine y_call 18 Y (as := [mi (v2 - 1), mi (v5 - 1), mi v8, mi 1]) [] dX6_goOnSum_18 rfl rfl rfl rfl rfl h (fun r S9 hq hI hr => ?_)
    obtain ⟨v10, rfl, h⟩ := Qi_ok hq
    replace h := h hI (mokI (hr _ rfl))
    clear hq hr
    refine y_istore_n 21 Y [some mt, some (mi a1), some (mi a2), some (mi v10), none] dX6_goOnSum_21 rfl rfl ?_
    refine y_aload_n 22 Y dX6_goOnSum_22 rfl ?_
    refine y_dup 23 Y dX6_goOnSum_23 rfl ?_
    refine y_getf 24 Y 61 dX6_goOnSum_24 rfl rfl (fun _ => ?_)
    refine y_iconst 27 Y dX6_goOnSum_27 rfl ?_
    obtain ⟨o11, h⟩ := h
    refine y_isub 28 Y dX6_goOnSum_28 o11 ?_
    refine y_putf 29 Y 61 dX6_goOnSum_29 rfl rfl (fun q => absurd q (by decide)) ?_
    refine y_iload_n 32 Y dX6_goOnSum_32 rfl ?_
    refine y_if 33 38 Y dX6_goOnSum_33 rfl rfl (fun c => ?_) (fun c => ?_)
    · replace h := h.1 c
      refine y_aload_n 38 Y dX6_goOnSum_38 rfl ?_
      refine y_geta 39 Y 55 dX6_goOnSum_39 rfl rfl ?_
      refine y_iload_n 42 Y dX6_goOnSum_42 rfl ?_
      refine y_dup2 43 Y dX6_goOnSum_43 rfl rfl ?_
      obtain ⟨o12, h⟩ := h
      obtain ⟨o13, h⟩ := h
      refine y_iald 44 Y dX6_goOnSum_44 rfl rfl o12 o13 (fun _ => ?_)
      refine y_iconst 45 Y dX6_goOnSum_45 rfl ?_
      obtain ⟨o14, h⟩ := h
      refine y_isub 46 Y dX6_goOnSum_46 o14 ?_
      refine y_iast 47 Y dX6_goOnSum_47 rfl rfl o12 o13 ?_
      refine y_aload_n 48 Y dX6_goOnSum_48 rfl ?_
      refine y_geta 49 Y 55 dX6_goOnSum_49 rfl rfl ?_
      refine y_iload_n 52 Y dX6_goOnSum_52 rfl ?_
      refine y_iald 53 Y dX6_goOnSum_53 rfl rfl o12 o13 (fun q => ?_)
      replace h := h q
      refine y_if 54 79 Y dX6_goOnSum_54 rfl rfl (fun c => ?_) (fun c => ?_)
      · replace h := h.1 c
        refine y_aload_n 79 Y dX6_goOnSum_79 rfl ?_
        refine y_sipush 80 Y dX6_goOnSum_80 rfl ?_
        refine y_iconst 83 Y dX6_goOnSum_83 rfl ?_
        refine y_call 84 Y (as := [mi 3600, mi 1]) [] dX6_goOnSum_84 rfl rfl rfl rfl rfl h (fun r S15 hq hI _ => ?_)
        obtain ⟨rfl, h⟩ := Qv_ok hq
        replace h := h hI
        clear hq
        refine y_sipush 87 Y dX6_goOnSum_87 rfl ?_
        refine y_iconst 90 Y dX6_goOnSum_90 rfl ?_
        refine y_aload_n 91 Y dX6_goOnSum_91 rfl ?_
        refine y_geta 92 Y 51 dX6_goOnSum_92 rfl rfl ?_
        refine y_iload_n 95 Y dX6_goOnSum_95 rfl ?_
        refine y_iald 96 Y dX6_goOnSum_96 rfl rfl o12 o13 (fun _ => ?_)
        obtain ⟨o16, h⟩ := h
        refine y_imul 97 Y dX6_goOnSum_97 o16 ?_
        obtain ⟨o17, h⟩ := h
        refine y_iadd 98 Y dX6_goOnSum_98 o17 ?_
        refine y_istore 99 Y [some mt, some (mi a1), some (mi a2), some (mi v10), some (mi (1000 + (3 * (S15 51 a1))))] dX6_goOnSum_99 rfl rfl ?_
        refine y_aload_n 101 Y dX6_goOnSum_101 rfl ?_
        refine y_iload 102 Y dX6_goOnSum_102 rfl ?_
        refine y_iload 104 Y dX6_goOnSum_104 rfl ?_
        refine y_sipush 106 Y dX6_goOnSum_106 rfl ?_
        refine y_iconst 109 Y dX6_goOnSum_109 rfl ?_
        refine y_call 110 Y (as := [mi (1000 + (3 * (S15 51 a1))), mi (1000 + (3 * (S15 51 a1))), mi 3600, mi 1]) [] dX6_goOnSum_110 rfl rfl rfl rfl rfl h (fun r S18 hq hI hr => ?_)
        obtain ⟨v19, rfl, h⟩ := Qi_ok hq
        replace h := h hI (mokI (hr _ rfl))
        clear hq hr
        refine y_pop 113 Y dX6_goOnSum_113 rfl ?_
        refine y_aload_n 114 Y dX6_goOnSum_114 rfl ?_
        refine y_aload_n 115 Y dX6_goOnSum_115 rfl ?_
        refine y_iload_n 116 Y dX6_goOnSum_116 rfl ?_
        refine y_iconst 117 Y dX6_goOnSum_117 rfl ?_
        refine y_call 118 Y (as := [mi a2, mi 3]) [mt] dX6_goOnSum_118 rfl rfl rfl rfl rfl h (fun r S20 hq hI hr => ?_)
        obtain ⟨v21, rfl, h⟩ := Qi_ok hq
        replace h := h hI (mokI (hr _ rfl))
        clear hq hr
        refine y_aload_n 121 Y dX6_goOnSum_121 rfl ?_
        refine y_geta 122 Y 51 dX6_goOnSum_122 rfl rfl ?_
        refine y_iload_n 125 Y dX6_goOnSum_125 rfl ?_
        refine y_iald 126 Y dX6_goOnSum_126 rfl rfl o12 o13 (fun _ => ?_)
        refine y_call 127 Y (as := [mi v21, mi (S20 51 a1)]) [] dX6_goOnSum_127 rfl rfl rfl rfl rfl h (fun r S22 hq hI _ => ?_)
        obtain ⟨rfl, h⟩ := Qv_ok hq
        replace h := h hI
        clear hq
        refine y_iconst 130 Y dX6_goOnSum_130 rfl ?_
        exact y_iret 131 Y dX6_goOnSum_131 rfl h
      · replace h := h.2 c
        refine y_aload_n 57 Y dX6_goOnSum_57 rfl ?_
        refine y_aload_n 58 Y dX6_goOnSum_58 rfl ?_
        refine y_geta 59 Y 51 dX6_goOnSum_59 rfl rfl ?_
        refine y_iload_n 62 Y dX6_goOnSum_62 rfl ?_
        refine y_iald 63 Y dX6_goOnSum_63 rfl rfl o12 o13 (fun _ => ?_)
        refine y_putf 64 Y 60 dX6_goOnSum_64 rfl rfl (fun q => absurd q (by decide)) ?_
        refine y_aload_n 67 Y dX6_goOnSum_67 rfl ?_
        refine y_dup 68 Y dX6_goOnSum_68 rfl ?_
        refine y_getf 69 Y 56 dX6_goOnSum_69 rfl rfl (fun _ => ?_)
        refine y_iconst 72 Y dX6_goOnSum_72 rfl ?_
        obtain ⟨o23, h⟩ := h
        refine y_isub 73 Y dX6_goOnSum_73 o23 ?_
        refine y_putf 74 Y 56 dX6_goOnSum_74 rfl rfl (fun q => absurd q (by decide)) ?_
        refine y_iconst 77 Y dX6_goOnSum_77 rfl ?_
        exact y_iret 78 Y dX6_goOnSum_78 rfl h
    · replace h := h.2 c
      refine y_iconst 36 Y dX6_goOnSum_36 rfl ?_
      exact y_iret 37 Y dX6_goOnSum_37 rfl h
  · intro n pc L st T hi
    exact hi.elim
set_option maxHeartbeats 4000000 in
theorem of_makes {g : mG} {S : mS} {a1 : Int} {Qp : Option mV → mS → Prop}
    (hE : mI S → (-2147483648 ≤ a1 ∧ a1 ≤ 2147483647) → CX_parse g [mt] S (Qi fun v2 S1 => mI S1 → (-2147483648 ≤ v2 ∧ v2 ≤ 2147483647) → ((v2 = (-1)) → CX_lay g [mt, mi 13440] S1 (Qi fun v4 S3 => mI S3 → (-2147483648 ≤ v4 ∧ v4 ≤ 2147483647) → CX_areSame g [mt, mi 13440, mi a1] S3 (Qi fun v6 S5 => mI S5 → (-2147483648 ≤ v6 ∧ v6 ≤ 2147483647) → (v6 = 0 ∨ v6 = 1) ∧ Qp (some (mi v6)) S5))) ∧ (¬ (v2 = (-1)) → Qp (some (mi 0)) S1)))
    : CX_makes g [mt, mi a1] S Qp := by
  refine cm_y ⟨by decide, rfl⟩ (by simp [mcat]) (by simp) (fun _ _ _ _ _ => False) ?_ ?_
  · intro ha hS P Y Wk hIc
    have h := hE hS (mokI (ha (mi a1) (by simp)))
    clear hE ha
    refine y_aload_n 0 Y dX6_makes_0 rfl ?_
    refine y_call 1 Y (as := []) [] dX6_makes_1 rfl rfl rfl rfl rfl h (fun r S1 hq hI hr => ?_)
    obtain ⟨v2, rfl, h⟩ := Qi_ok hq
    replace h := h hI (mokI (hr _ rfl))
    clear hq hr
    refine y_iconst 4 Y dX6_makes_4 rfl ?_
    refine y_icmp 5 10 Y dX6_makes_5 rfl rfl (fun c => ?_) (fun c => ?_)
    · replace h := h.1 c
      refine y_aload_n 10 Y dX6_makes_10 rfl ?_
      refine y_sipush 11 Y dX6_makes_11 rfl ?_
      refine y_call 14 Y (as := [mi 13440]) [] dX6_makes_14 rfl rfl rfl rfl rfl h (fun r S3 hq hI hr => ?_)
      obtain ⟨v4, rfl, h⟩ := Qi_ok hq
      replace h := h hI (mokI (hr _ rfl))
      clear hq hr
      refine y_pop 17 Y dX6_makes_17 rfl ?_
      refine y_aload_n 18 Y dX6_makes_18 rfl ?_
      refine y_sipush 19 Y dX6_makes_19 rfl ?_
      refine y_iload_n 22 Y dX6_makes_22 rfl ?_
      refine y_call 23 Y (as := [mi 13440, mi a1]) [] dX6_makes_23 rfl rfl rfl rfl rfl h (fun r S5 hq hI hr => ?_)
      obtain ⟨v6, rfl, h⟩ := Qi_ok hq
      replace h := h hI (mokI (hr _ rfl))
      clear hq hr
      exact y_zret 26 Y dX6_makes_26 rfl h.1 h.2
    · replace h := h.2 c
      refine y_iconst 8 Y dX6_makes_8 rfl ?_
      exact y_zret 9 Y dX6_makes_9 rfl (by decide) h
  · intro n pc L st T hi
    exact hi.elim
set_option maxHeartbeats 4000000 in
theorem of_multiplyPolynomials {g : mG} {S : mS} {a1 a2 a3 : Int} {Qp : Option mV → mS → Prop} (I26 : Nat → Int → Int → Int → Int → Int → mS → Prop) (I45 : Nat → Int → Int → Int → Int → Int → mS → Prop)
    (hE : mI S → (-2147483648 ≤ a1 ∧ a1 ≤ 2147483647) → (-2147483648 ≤ a2 ∧ a2 ≤ 2147483647) → (-2147483648 ≤ a3 ∧ a3 ≤ 2147483647) → CX_degreeOf g [mt, mi a2] S (Qi fun v2 S1 => mI S1 → (-2147483648 ≤ v2 ∧ v2 ≤ 2147483647) → CX_degreeOf g [mt, mi a3] S1 (Qi fun v4 S3 => mI S3 → (-2147483648 ≤ v4 ∧ v4 ≤ 2147483647) → (-2147483648 ≤ ((v2 + v4) : Int) ∧ (v2 + v4) ≤ 2147483647) ∧ ((8 < (v2 + v4)) → (∃ n1, I26 n1 a1 a2 a3 0 0 S3)) ∧ (¬ (8 < (v2 + v4)) → (∃ n1, I26 n1 a1 a2 a3 1 0 S3)))))
    (h26 : ∀ (n : Nat) (l1 l2 l3 l4 l5 : Int) (T : mS), mI T → (-2147483648 ≤ l1 ∧ l1 ≤ 2147483647) → (-2147483648 ≤ l2 ∧ l2 ≤ 2147483647) → (-2147483648 ≤ l3 ∧ l3 ≤ 2147483647) → (-2147483648 ≤ l4 ∧ l4 ≤ 2147483647) → (-2147483648 ≤ l5 ∧ l5 ≤ 2147483647) → I26 n l1 l2 l3 l4 l5 T → ((9 ≤ l5) → (l4 = 0 ∨ l4 = 1) ∧ Qp (some (mi l4)) T) ∧ (¬ (9 ≤ l5) → ((l4 = 0) → (l4 = 0 ∨ l4 = 1) ∧ Qp (some (mi l4)) T) ∧ (¬ (l4 = 0) → CX_clearWide g [mt] T (Qv fun S1 => mI S1 → (∃ n1, n1 < n ∧ I45 n1 l1 l2 l3 l5 0 S1)))))
    (h45 : ∀ (n : Nat) (l1 l2 l3 l5 l6 : Int) (T : mS), mI T → (-2147483648 ≤ l1 ∧ l1 ≤ 2147483647) → (-2147483648 ≤ l2 ∧ l2 ≤ 2147483647) → (-2147483648 ≤ l3 ∧ l3 ≤ 2147483647) → (-2147483648 ≤ l5 ∧ l5 ≤ 2147483647) → (-2147483648 ≤ l6 ∧ l6 ≤ 2147483647) → I45 n l1 l2 l3 l5 l6 T → ((l5 < l6) → CX_coefficientAt g [mi l1, mi l5] T (Qi fun v2 S1 => mI S1 → (-2147483648 ≤ v2 ∧ v2 ≤ 2147483647) → CX_storeWide g [mt, mi v2] S1 (Qi fun v4 S3 => mI S3 → (-2147483648 ≤ v4 ∧ v4 ≤ 2147483647) → (-2147483648 ≤ ((l5 + 1) : Int) ∧ (l5 + 1) ≤ 2147483647) ∧ (∃ n1, n1 < n ∧ I26 n1 l1 l2 l3 v4 (l5 + 1) S3)))) ∧ (¬ (l5 < l6) → CX_coefficientAt g [mi l2, mi l6] T (Qi fun v7 S6 => mI S6 → (-2147483648 ≤ v7 ∧ v7 ≤ 2147483647) → CX_sign_2 g [mt, mi v7] S6 (Qi fun v9 S8 => mI S8 → (-2147483648 ≤ v9 ∧ v9 ≤ 2147483647) → ((v9 = 0) → (-2147483648 ≤ ((l6 + 1) : Int) ∧ (l6 + 1) ≤ 2147483647) ∧ (∃ n1, n1 < n ∧ I45 n1 l1 l2 l3 l5 (l6 + 1) S8)) ∧ (¬ (v9 = 0) → (-2147483648 ≤ ((l5 - l6) : Int) ∧ (l5 - l6) ≤ 2147483647) ∧ CX_coefficientAt g [mi l3, mi (l5 - l6)] S8 (Qi fun v13 S12 => mI S12 → (-2147483648 ≤ v13 ∧ v13 ≤ 2147483647) → CX_sign_2 g [mt, mi v13] S12 (Qi fun v15 S14 => mI S14 → (-2147483648 ≤ v15 ∧ v15 ≤ 2147483647) → ((v15 = 0) → (-2147483648 ≤ ((l6 + 1) : Int) ∧ (l6 + 1) ≤ 2147483647) ∧ (∃ n1, n1 < n ∧ I45 n1 l1 l2 l3 l5 (l6 + 1) S14)) ∧ (¬ (v15 = 0) → CX_coefficientAt g [mi l2, mi l6] S14 (Qi fun v18 S17 => mI S17 → (-2147483648 ≤ v18 ∧ v18 ≤ 2147483647) → CX_coefficientAt g [mi l3, mi (l5 - l6)] S17 (Qi fun v20 S19 => mI S19 → (-2147483648 ≤ v20 ∧ v20 ≤ 2147483647) → CX_addProduct g [mt, mi v18, mi v20, mi 1] S19 (Qv fun S21 => mI S21 → (-2147483648 ≤ ((l6 + 1) : Int) ∧ (l6 + 1) ≤ 2147483647) ∧ (∃ n1, n1 < n ∧ I45 n1 l1 l2 l3 l5 (l6 + 1) S21))))))))))))
    : CX_multiplyPolynomials g [mt, mi a1, mi a2, mi a3] S Qp := by
  refine cm_y ⟨by decide, rfl⟩ (by simp [mcat]) (by simp) (fun n pc L st S => (pc = 26 ∧ ∃ (l1 : Int) (l2 : Int) (l3 : Int) (l4 : Int) (l5 : Int), L = [some mt, some (mi l1), some (mi l2), some (mi l3), some (mi l4), some (mi l5), none] ∧ st = [] ∧ I26 n l1 l2 l3 l4 l5 S) ∨ (pc = 45 ∧ ∃ (l1 : Int) (l2 : Int) (l3 : Int) (l5 : Int) (l6 : Int), L = [some mt, some (mi l1), some (mi l2), some (mi l3), none, some (mi l5), some (mi l6)] ∧ st = [] ∧ I45 n l1 l2 l3 l5 l6 S)) ?_ ?_
  · intro ha hS P Y Wk hIc
    have h := hE hS (mokI (ha (mi a1) (by simp))) (mokI (ha (mi a2) (by simp))) (mokI (ha (mi a3) (by simp)))
    clear hE ha h26 h45
    refine y_aload_n 0 Y dX6_multiplyPolynomials_0 rfl ?_
    refine y_iload_n 1 Y dX6_multiplyPolynomials_1 rfl ?_
    refine y_call 2 Y (as := [mi a2]) [] dX6_multiplyPolynomials_2 rfl rfl rfl rfl rfl h (fun r S1 hq hI hr => ?_)
    obtain ⟨v2, rfl, h⟩ := Qi_ok hq
    replace h := h hI (mokI (hr _ rfl))
    clear hq hr
    refine y_aload_n 5 Y dX6_multiplyPolynomials_5 rfl ?_
    refine y_iload_n 6 Y dX6_multiplyPolynomials_6 rfl ?_
    refine y_call 7 Y (as := [mi a3]) [mi v2] dX6_multiplyPolynomials_7 rfl rfl rfl rfl rfl h (fun r S3 hq hI hr => ?_)
    obtain ⟨v4, rfl, h⟩ := Qi_ok hq
    replace h := h hI (mokI (hr _ rfl))
    clear hq hr
    obtain ⟨o5, h⟩ := h
    refine y_iadd 10 Y dX6_multiplyPolynomials_10 o5 ?_
    refine y_bipush 11 Y dX6_multiplyPolynomials_11 rfl ?_
    refine y_icmp 13 20 Y dX6_multiplyPolynomials_13 rfl rfl (fun c => ?_) (fun c => ?_)
    · replace h := h.1 c
      refine y_iconst 20 Y dX6_multiplyPolynomials_20 rfl ?_
      refine y_istore 21 Y [some mt, some (mi a1), some (mi a2), some (mi a3), some (mi 0), none, none] dX6_multiplyPolynomials_21 rfl rfl ?_
      refine y_iconst 23 Y dX6_multiplyPolynomials_23 rfl ?_
      refine y_istore 24 Y [some mt, some (mi a1), some (mi a2), some (mi a3), some (mi 0), some (mi 0), none] dX6_multiplyPolynomials_24 rfl rfl ?_
      obtain ⟨n1, h⟩ := h
      exact Wk 26 _ [some mt, some (mi a1), some (mi a2), some (mi a3), some (mi 0), some (mi 0), none] _ _ ⟨rfl, ⟨rfl, ⟨rfl, ⟨rfl, ⟨rfl, ⟨rfl, trivial⟩⟩⟩⟩⟩⟩ (hIc n1 _ _ _ _ (Or.inl (⟨rfl, _, _, _, _, _, rfl, rfl, h⟩)))
    · replace h := h.2 c
      refine y_iconst 16 Y dX6_multiplyPolynomials_16 rfl ?_
      refine y_goto 17 21 Y dX6_multiplyPolynomials_17 rfl rfl ?_
      refine y_istore 21 Y [some mt, some (mi a1), some (mi a2), some (mi a3), some (mi 1), none, none] dX6_multiplyPolynomials_21 rfl rfl ?_
      refine y_iconst 23 Y dX6_multiplyPolynomials_23 rfl ?_
      refine y_istore 24 Y [some mt, some (mi a1), some (mi a2), some (mi a3), some (mi 1), some (mi 0), none] dX6_multiplyPolynomials_24 rfl rfl ?_
      obtain ⟨n1, h⟩ := h
      exact Wk 26 _ [some mt, some (mi a1), some (mi a2), some (mi a3), some (mi 1), some (mi 0), none] _ _ ⟨rfl, ⟨rfl, ⟨rfl, ⟨rfl, ⟨rfl, ⟨rfl, trivial⟩⟩⟩⟩⟩⟩ (hIc n1 _ _ _ _ (Or.inl (⟨rfl, _, _, _, _, _, rfl, rfl, h⟩)))
  · intro n pc L st T hi hS hL P Y Wk hIc
    clear hE
    rcases hi with ⟨rfl, l1, l2, l3, l4, l5, rfl, rfl, hi⟩ | ⟨rfl, l1, l2, l3, l5, l6, rfl, rfl, hi⟩
    · have h := h26 n l1 l2 l3 l4 l5 T hS (hL 1 _ rfl) (hL 2 _ rfl) (hL 3 _ rfl) (hL 4 _ rfl) (hL 5 _ rfl) hi
      clear hL hi h26 h45
      refine y_iload 26 Y dX6_multiplyPolynomials_26 rfl ?_
      refine y_bipush 28 Y dX6_multiplyPolynomials_28 rfl ?_
      refine y_icmp 30 125 Y dX6_multiplyPolynomials_30 rfl rfl (fun c => ?_) (fun c => ?_)
      · replace h := h.1 c
        refine y_iload 125 Y dX6_multiplyPolynomials_125 rfl ?_
        exact y_zret 127 Y dX6_multiplyPolynomials_127 rfl h.1 h.2
      · replace h := h.2 c
        refine y_iload 33 Y dX6_multiplyPolynomials_33 rfl ?_
        refine y_if 35 125 Y dX6_multiplyPolynomials_35 rfl rfl (fun c => ?_) (fun c => ?_)
        · replace h := h.1 c
          refine y_iload 125 Y dX6_multiplyPolynomials_125 rfl ?_
          exact y_zret 127 Y dX6_multiplyPolynomials_127 rfl h.1 h.2
        · replace h := h.2 c
          refine y_aload_n 38 Y dX6_multiplyPolynomials_38 rfl ?_
          refine y_call 39 Y (as := []) [] dX6_multiplyPolynomials_39 rfl rfl rfl rfl rfl h (fun r S1 hq hI _ => ?_)
          obtain ⟨rfl, h⟩ := Qv_ok hq
          replace h := h hI
          clear hq
          refine y_iconst 42 Y dX6_multiplyPolynomials_42 rfl ?_
          refine y_istore 43 Y [some mt, some (mi l1), some (mi l2), some (mi l3), some (mi l4), some (mi l5), some (mi 0)] dX6_multiplyPolynomials_43 rfl rfl ?_
          obtain ⟨n1, hn, h⟩ := h
          exact Wk 45 _ [some mt, some (mi l1), some (mi l2), some (mi l3), none, some (mi l5), some (mi 0)] _ _ ⟨rfl, ⟨rfl, ⟨rfl, ⟨rfl, ⟨rfl, ⟨rfl, trivial⟩⟩⟩⟩⟩⟩ (hIc n1 _ _ _ _ hn (Or.inr ((⟨rfl, _, _, _, _, _, rfl, rfl, h⟩))))
    · have h := h45 n l1 l2 l3 l5 l6 T hS (hL 1 _ rfl) (hL 2 _ rfl) (hL 3 _ rfl) (hL 5 _ rfl) (hL 6 _ rfl) hi
      clear hL hi h26 h45
      refine y_iload 45 Y dX6_multiplyPolynomials_45 rfl ?_
      refine y_iload 47 Y dX6_multiplyPolynomials_47 rfl ?_
      refine y_icmp 49 107 Y dX6_multiplyPolynomials_49 rfl rfl (fun c => ?_) (fun c => ?_)
      · replace h := h.1 c
        refine y_aload_n 107 Y dX6_multiplyPolynomials_107 rfl ?_
        refine y_iload_n 108 Y dX6_multiplyPolynomials_108 rfl ?_
        refine y_iload 109 Y dX6_multiplyPolynomials_109 rfl ?_
        refine y_calls 111 Y (as := [mi l1, mi l5]) [mt] dX6_multiplyPolynomials_111 rfl rfl rfl rfl rfl h (fun r S1 hq hI hr => ?_)
        obtain ⟨v2, rfl, h⟩ := Qi_ok hq
        replace h := h hI (mokI (hr _ rfl))
        clear hq hr
        refine y_call 114 Y (as := [mi v2]) [] dX6_multiplyPolynomials_114 rfl rfl rfl rfl rfl h (fun r S3 hq hI hr => ?_)
        obtain ⟨v4, rfl, h⟩ := Qi_ok hq
        replace h := h hI (mokI (hr _ rfl))
        clear hq hr
        refine y_istore 117 Y [some mt, some (mi l1), some (mi l2), some (mi l3), some (mi v4), some (mi l5), some (mi l6)] dX6_multiplyPolynomials_117 rfl rfl ?_
        obtain ⟨o5, h⟩ := h
        refine y_iinc 119 Y [some mt, some (mi l1), some (mi l2), some (mi l3), some (mi v4), some (mi (l5 + 1)), some (mi l6)] dX6_multiplyPolynomials_119 rfl rfl o5 ?_
        refine y_goto 122 26 Y dX6_multiplyPolynomials_122 rfl rfl ?_
        obtain ⟨n1, hn, h⟩ := h
        exact Wk 26 _ [some mt, some (mi l1), some (mi l2), some (mi l3), some (mi v4), some (mi (l5 + 1)), none] _ _ ⟨rfl, ⟨rfl, ⟨rfl, ⟨rfl, ⟨rfl, ⟨rfl, trivial⟩⟩⟩⟩⟩⟩ (hIc n1 _ _ _ _ hn (Or.inl (⟨rfl, _, _, _, _, _, rfl, rfl, h⟩)))
      · replace h := h.2 c
        refine y_aload_n 52 Y dX6_multiplyPolynomials_52 rfl ?_
        refine y_iload_n 53 Y dX6_multiplyPolynomials_53 rfl ?_
        refine y_iload 54 Y dX6_multiplyPolynomials_54 rfl ?_
        refine y_calls 56 Y (as := [mi l2, mi l6]) [mt] dX6_multiplyPolynomials_56 rfl rfl rfl rfl rfl h (fun r S6 hq hI hr => ?_)
        obtain ⟨v7, rfl, h⟩ := Qi_ok hq
        replace h := h hI (mokI (hr _ rfl))
        clear hq hr
        refine y_call 59 Y (as := [mi v7]) [] dX6_multiplyPolynomials_59 rfl rfl rfl rfl rfl h (fun r S8 hq hI hr => ?_)
        obtain ⟨v9, rfl, h⟩ := Qi_ok hq
        replace h := h hI (mokI (hr _ rfl))
        clear hq hr
        refine y_if 62 101 Y dX6_multiplyPolynomials_62 rfl rfl (fun c => ?_) (fun c => ?_)
        · replace h := h.1 c
          obtain ⟨o10, h⟩ := h
          refine y_iinc 101 Y [some mt, some (mi l1), some (mi l2), some (mi l3), none, some (mi l5), some (mi (l6 + 1))] dX6_multiplyPolynomials_101 rfl rfl o10 ?_
          refine y_goto 104 45 Y dX6_multiplyPolynomials_104 rfl rfl ?_
          obtain ⟨n1, hn, h⟩ := h
          exact Wk 45 _ [some mt, some (mi l1), some (mi l2), some (mi l3), none, some (mi l5), some (mi (l6 + 1))] _ _ ⟨rfl, ⟨rfl, ⟨rfl, ⟨rfl, ⟨rfl, ⟨rfl, trivial⟩⟩⟩⟩⟩⟩ (hIc n1 _ _ _ _ hn (Or.inr ((⟨rfl, _, _, _, _, _, rfl, rfl, h⟩))))
        · replace h := h.2 c
          refine y_aload_n 65 Y dX6_multiplyPolynomials_65 rfl ?_
          refine y_iload_n 66 Y dX6_multiplyPolynomials_66 rfl ?_
          refine y_iload 67 Y dX6_multiplyPolynomials_67 rfl ?_
          refine y_iload 69 Y dX6_multiplyPolynomials_69 rfl ?_
          obtain ⟨o11, h⟩ := h
          refine y_isub 71 Y dX6_multiplyPolynomials_71 o11 ?_
          refine y_calls 72 Y (as := [mi l3, mi (l5 - l6)]) [mt] dX6_multiplyPolynomials_72 rfl rfl rfl rfl rfl h (fun r S12 hq hI hr => ?_)
          obtain ⟨v13, rfl, h⟩ := Qi_ok hq
          replace h := h hI (mokI (hr _ rfl))
          clear hq hr
          refine y_call 75 Y (as := [mi v13]) [] dX6_multiplyPolynomials_75 rfl rfl rfl rfl rfl h (fun r S14 hq hI hr => ?_)
          obtain ⟨v15, rfl, h⟩ := Qi_ok hq
          replace h := h hI (mokI (hr _ rfl))
          clear hq hr
          refine y_if 78 101 Y dX6_multiplyPolynomials_78 rfl rfl (fun c => ?_) (fun c => ?_)
          · replace h := h.1 c
            obtain ⟨o16, h⟩ := h
            refine y_iinc 101 Y [some mt, some (mi l1), some (mi l2), some (mi l3), none, some (mi l5), some (mi (l6 + 1))] dX6_multiplyPolynomials_101 rfl rfl o16 ?_
            refine y_goto 104 45 Y dX6_multiplyPolynomials_104 rfl rfl ?_
            obtain ⟨n1, hn, h⟩ := h
            exact Wk 45 _ [some mt, some (mi l1), some (mi l2), some (mi l3), none, some (mi l5), some (mi (l6 + 1))] _ _ ⟨rfl, ⟨rfl, ⟨rfl, ⟨rfl, ⟨rfl, ⟨rfl, trivial⟩⟩⟩⟩⟩⟩ (hIc n1 _ _ _ _ hn (Or.inr ((⟨rfl, _, _, _, _, _, rfl, rfl, h⟩))))
          · replace h := h.2 c
            refine y_aload_n 81 Y dX6_multiplyPolynomials_81 rfl ?_
            refine y_iload_n 82 Y dX6_multiplyPolynomials_82 rfl ?_
            refine y_iload 83 Y dX6_multiplyPolynomials_83 rfl ?_
            refine y_calls 85 Y (as := [mi l2, mi l6]) [mt] dX6_multiplyPolynomials_85 rfl rfl rfl rfl rfl h (fun r S17 hq hI hr => ?_)
            obtain ⟨v18, rfl, h⟩ := Qi_ok hq
            replace h := h hI (mokI (hr _ rfl))
            clear hq hr
            refine y_iload_n 88 Y dX6_multiplyPolynomials_88 rfl ?_
            refine y_iload 89 Y dX6_multiplyPolynomials_89 rfl ?_
            refine y_iload 91 Y dX6_multiplyPolynomials_91 rfl ?_
            refine y_isub 93 Y dX6_multiplyPolynomials_93 o11 ?_
            refine y_calls 94 Y (as := [mi l3, mi (l5 - l6)]) [mi v18, mt] dX6_multiplyPolynomials_94 rfl rfl rfl rfl rfl h (fun r S19 hq hI hr => ?_)
            obtain ⟨v20, rfl, h⟩ := Qi_ok hq
            replace h := h hI (mokI (hr _ rfl))
            clear hq hr
            refine y_iconst 97 Y dX6_multiplyPolynomials_97 rfl ?_
            refine y_call 98 Y (as := [mi v18, mi v20, mi 1]) [] dX6_multiplyPolynomials_98 rfl rfl rfl rfl rfl h (fun r S21 hq hI _ => ?_)
            obtain ⟨rfl, h⟩ := Qv_ok hq
            replace h := h hI
            clear hq
            obtain ⟨o22, h⟩ := h
            refine y_iinc 101 Y [some mt, some (mi l1), some (mi l2), some (mi l3), none, some (mi l5), some (mi (l6 + 1))] dX6_multiplyPolynomials_101 rfl rfl o22 ?_
            refine y_goto 104 45 Y dX6_multiplyPolynomials_104 rfl rfl ?_
            obtain ⟨n1, hn, h⟩ := h
            exact Wk 45 _ [some mt, some (mi l1), some (mi l2), some (mi l3), none, some (mi l5), some (mi (l6 + 1))] _ _ ⟨rfl, ⟨rfl, ⟨rfl, ⟨rfl, ⟨rfl, ⟨rfl, trivial⟩⟩⟩⟩⟩⟩ (hIc n1 _ _ _ _ hn (Or.inr ((⟨rfl, _, _, _, _, _, rfl, rfl, h⟩))))
set_option maxHeartbeats 4000000 in
theorem of_raise {g : mG} {S : mS} {a1 a2 a3 : Int} {Qp : Option mV → mS → Prop} (I12 : Nat → Int → Int → Int → Int → Int → mS → Prop)
    (hE : mI S → (-2147483648 ≤ a1 ∧ a1 ≤ 2147483647) → (-2147483648 ≤ a2 ∧ a2 ≤ 2147483647) → (-2147483648 ≤ a3 ∧ a3 ≤ 2147483647) → CX_setInt g [mt, mi a1, mi 1] S (Qv fun S1 => mI S1 → (∃ n1, I12 n1 a1 a2 a3 1 0 S1)))
    (h12 : ∀ (n : Nat) (l1 l2 l3 l4 l5 : Int) (T : mS), mI T → (-2147483648 ≤ l1 ∧ l1 ≤ 2147483647) → (-2147483648 ≤ l2 ∧ l2 ≤ 2147483647) → (-2147483648 ≤ l3 ∧ l3 ≤ 2147483647) → (-2147483648 ≤ l4 ∧ l4 ≤ 2147483647) → (-2147483648 ≤ l5 ∧ l5 ≤ 2147483647) → I12 n l1 l2 l3 l4 l5 T → ((l3 ≤ l5) → (l4 = 0 ∨ l4 = 1) ∧ Qp (some (mi l4)) T) ∧ (¬ (l3 ≤ l5) → ((l4 = 0) → (l4 = 0 ∨ l4 = 1) ∧ Qp (some (mi l4)) T) ∧ (¬ (l4 = 0) → CX_multiplyValues g [mt, mi l1, mi l1, mi l2] T (Qi fun v2 S1 => mI S1 → (-2147483648 ≤ v2 ∧ v2 ≤ 2147483647) → (-2147483648 ≤ ((l5 + 1) : Int) ∧ (l5 + 1) ≤ 2147483647) ∧ (∃ n1, n1 < n ∧ I12 n1 l1 l2 l3 v2 (l5 + 1) S1)))))
    : CX_raise g [mt, mi a1, mi a2, mi a3] S Qp := by
  refine cm_y ⟨by decide, rfl⟩ (by simp [mcat]) (by simp) (fun n pc L st S => (pc = 12 ∧ ∃ (l1 : Int) (l2 : Int) (l3 : Int) (l4 : Int) (l5 : Int), L = [some mt, some (mi l1), some (mi l2), some (mi l3), some (mi l4), some (mi l5)] ∧ st = [] ∧ I12 n l1 l2 l3 l4 l5 S)) ?_ ?_
  · intro ha hS P Y Wk hIc
    have h := hE hS (mokI (ha (mi a1) (by simp))) (mokI (ha (mi a2) (by simp))) (mokI (ha (mi a3) (by simp)))
    clear hE ha h12
    refine y_aload_n 0 Y dX6_raise_0 rfl ?_
    refine y_iload_n 1 Y dX6_raise_1 rfl ?_
    refine y_iconst 2 Y dX6_raise_2 rfl ?_
    refine y_call 3 Y (as := [mi a1, mi 1]) [] dX6_raise_3 rfl rfl rfl rfl rfl h (fun r S1 hq hI _ => ?_)
    obtain ⟨rfl, h⟩ := Qv_ok hq
    replace h := h hI
    clear hq
    refine y_iconst 6 Y dX6_raise_6 rfl ?_
    refine y_istore 7 Y [some mt, some (mi a1), some (mi a2), some (mi a3), some (mi 1), none] dX6_raise_7 rfl rfl ?_
    refine y_iconst 9 Y dX6_raise_9 rfl ?_
    refine y_istore 10 Y [some mt, some (mi a1), some (mi a2), some (mi a3), some (mi 1), some (mi 0)] dX6_raise_10 rfl rfl ?_
    obtain ⟨n1, h⟩ := h
    exact Wk 12 _ [some mt, some (mi a1), some (mi a2), some (mi a3), some (mi 1), some (mi 0)] _ _ ⟨rfl, ⟨rfl, ⟨rfl, ⟨rfl, ⟨rfl, ⟨rfl, trivial⟩⟩⟩⟩⟩⟩ (hIc n1 _ _ _ _ ((⟨rfl, _, _, _, _, _, rfl, rfl, h⟩)))
  · intro n pc L st T hi hS hL P Y Wk hIc
    clear hE
    rcases hi with ⟨rfl, l1, l2, l3, l4, l5, rfl, rfl, hi⟩
    · have h := h12 n l1 l2 l3 l4 l5 T hS (hL 1 _ rfl) (hL 2 _ rfl) (hL 3 _ rfl) (hL 4 _ rfl) (hL 5 _ rfl) hi
      clear hL hi h12
      refine y_iload 12 Y dX6_raise_12 rfl ?_
      refine y_iload_n 14 Y dX6_raise_14 rfl ?_
      refine y_icmp 15 38 Y dX6_raise_15 rfl rfl (fun c => ?_) (fun c => ?_)
      · replace h := h.1 c
        refine y_iload 38 Y dX6_raise_38 rfl ?_
        exact y_zret 40 Y dX6_raise_40 rfl h.1 h.2
      · replace h := h.2 c
        refine y_iload 18 Y dX6_raise_18 rfl ?_
        refine y_if 20 38 Y dX6_raise_20 rfl rfl (fun c => ?_) (fun c => ?_)
        · replace h := h.1 c
          refine y_iload 38 Y dX6_raise_38 rfl ?_
          exact y_zret 40 Y dX6_raise_40 rfl h.1 h.2
        · replace h := h.2 c
          refine y_aload_n 23 Y dX6_raise_23 rfl ?_
          refine y_iload_n 24 Y dX6_raise_24 rfl ?_
          refine y_iload_n 25 Y dX6_raise_25 rfl ?_
          refine y_iload_n 26 Y dX6_raise_26 rfl ?_
          refine y_call 27 Y (as := [mi l1, mi l1, mi l2]) [] dX6_raise_27 rfl rfl rfl rfl rfl h (fun r S1 hq hI hr => ?_)
          obtain ⟨v2, rfl, h⟩ := Qi_ok hq
          replace h := h hI (mokI (hr _ rfl))
          clear hq hr
          refine y_istore 30 Y [some mt, some (mi l1), some (mi l2), some (mi l3), some (mi v2), some (mi l5)] dX6_raise_30 rfl rfl ?_
          obtain ⟨o3, h⟩ := h
          refine y_iinc 32 Y [some mt, some (mi l1), some (mi l2), some (mi l3), some (mi v2), some (mi (l5 + 1))] dX6_raise_32 rfl rfl o3 ?_
          refine y_goto 35 12 Y dX6_raise_35 rfl rfl ?_
          obtain ⟨n1, hn, h⟩ := h
          exact Wk 12 _ [some mt, some (mi l1), some (mi l2), some (mi l3), some (mi v2), some (mi (l5 + 1))] _ _ ⟨rfl, ⟨rfl, ⟨rfl, ⟨rfl, ⟨rfl, ⟨rfl, trivial⟩⟩⟩⟩⟩⟩ (hIc n1 _ _ _ _ hn ((⟨rfl, _, _, _, _, _, rfl, rfl, h⟩)))
set_option maxHeartbeats 4000000 in
theorem of_scalePolynomials {g : mG} {S : mS} {a1 a2 : Int} {Qp : Option mV → mS → Prop} (I29 : Nat → Int → Int → Int → Int → mS → Prop)
    (hE : mI S → (-2147483648 ≤ a1 ∧ a1 ≤ 2147483647) → (-2147483648 ≤ a2 ∧ a2 ≤ 2147483647) → CX_degreeOf g [mt, mi a2] S (Qi fun v2 S1 => mI S1 → (-2147483648 ≤ v2 ∧ v2 ≤ 2147483647) → ((v2 ≠ 0) → (∃ n1, I29 n1 a1 a2 0 0 S1)) ∧ (¬ (v2 ≠ 0) → CX_coefficientAt g [mi a2, mi 0] S1 (Qi fun v4 S3 => mI S3 → (-2147483648 ≤ v4 ∧ v4 ≤ 2147483647) → CX_sign_2 g [mt, mi v4] S3 (Qi fun v6 S5 => mI S5 → (-2147483648 ≤ v6 ∧ v6 ≤ 2147483647) → ((v6 = 0) → (∃ n1, I29 n1 a1 a2 0 0 S5)) ∧ (¬ (v6 = 0) → (∃ n1, I29 n1 a1 a2 1 0 S5)))))))
    (h29 : ∀ (n : Nat) (l1 l2 l3 l4 : Int) (T : mS), mI T → (-2147483648 ≤ l1 ∧ l1 ≤ 2147483647) → (-2147483648 ≤ l2 ∧ l2 ≤ 2147483647) → (-2147483648 ≤ l3 ∧ l3 ≤ 2147483647) → (-2147483648 ≤ l4 ∧ l4 ≤ 2147483647) → I29 n l1 l2 l3 l4 T → ((9 ≤ l4) → (l3 = 0 ∨ l3 = 1) ∧ Qp (some (mi l3)) T) ∧ (¬ (9 ≤ l4) → ((l3 = 0) → (l3 = 0 ∨ l3 = 1) ∧ Qp (some (mi l3)) T) ∧ (¬ (l3 = 0) → CX_coefficientAt g [mi l1, mi l4] T (Qi fun v2 S1 => mI S1 → (-2147483648 ≤ v2 ∧ v2 ≤ 2147483647) → CX_coefficientAt g [mi l1, mi l4] S1 (Qi fun v4 S3 => mI S3 → (-2147483648 ≤ v4 ∧ v4 ≤ 2147483647) → CX_coefficientAt g [mi l2, mi 0] S3 (Qi fun v6 S5 => mI S5 → (-2147483648 ≤ v6 ∧ v6 ≤ 2147483647) → CX_divideValues g [mt, mi v2, mi v4, mi v6] S5 (Qi fun v8 S7 => mI S7 → (-2147483648 ≤ v8 ∧ v8 ≤ 2147483647) → (-2147483648 ≤ ((l4 + 1) : Int) ∧ (l4 + 1) ≤ 2147483647) ∧ (∃ n1, n1 < n ∧ I29 n1 l1 l2 v8 (l4 + 1) S7))))))))
    : CX_scalePolynomials g [mt, mi a1, mi a2] S Qp := by
  refine cm_y ⟨by decide, rfl⟩ (by simp [mcat]) (by simp) (fun n pc L st S => (pc = 29 ∧ ∃ (l1 : Int) (l2 : Int) (l3 : Int) (l4 : Int), L = [some mt, some (mi l1), some (mi l2), some (mi l3), some (mi l4)] ∧ st = [] ∧ I29 n l1 l2 l3 l4 S)) ?_ ?_
  · intro ha hS P Y Wk hIc
    have h := hE hS (mokI (ha (mi a1) (by simp))) (mokI (ha (mi a2) (by simp)))
    clear hE ha h29
    refine y_aload_n 0 Y dX6_scalePolynomials_0 rfl ?_
    refine y_iload_n 1 Y dX6_scalePolynomials_1 rfl ?_
    refine y_call 2 Y (as := [mi a2]) [] dX6_scalePolynomials_2 rfl rfl rfl rfl rfl h (fun r S1 hq hI hr => ?_)
    obtain ⟨v2, rfl, h⟩ := Qi_ok hq
    replace h := h hI (mokI (hr _ rfl))
    clear hq hr
    refine y_if 5 24 Y dX6_scalePolynomials_5 rfl rfl (fun c => ?_) (fun c => ?_)
    · replace h := h.1 c
      refine y_iconst 24 Y dX6_scalePolynomials_24 rfl ?_
      refine y_istore_n 25 Y [some mt, some (mi a1), some (mi a2), some (mi 0), none] dX6_scalePolynomials_25 rfl rfl ?_
      refine y_iconst 26 Y dX6_scalePolynomials_26 rfl ?_
      refine y_istore 27 Y [some mt, some (mi a1), some (mi a2), some (mi 0), some (mi 0)] dX6_scalePolynomials_27 rfl rfl ?_
      obtain ⟨n1, h⟩ := h
      exact Wk 29 _ [some mt, some (mi a1), some (mi a2), some (mi 0), some (mi 0)] _ _ ⟨rfl, ⟨rfl, ⟨rfl, ⟨rfl, ⟨rfl, trivial⟩⟩⟩⟩⟩ (hIc n1 _ _ _ _ ((⟨rfl, _, _, _, _, rfl, rfl, h⟩)))
    · replace h := h.2 c
      refine y_aload_n 8 Y dX6_scalePolynomials_8 rfl ?_
      refine y_iload_n 9 Y dX6_scalePolynomials_9 rfl ?_
      refine y_iconst 10 Y dX6_scalePolynomials_10 rfl ?_
      refine y_calls 11 Y (as := [mi a2, mi 0]) [mt] dX6_scalePolynomials_11 rfl rfl rfl rfl rfl h (fun r S3 hq hI hr => ?_)
      obtain ⟨v4, rfl, h⟩ := Qi_ok hq
      replace h := h hI (mokI (hr _ rfl))
      clear hq hr
      refine y_call 14 Y (as := [mi v4]) [] dX6_scalePolynomials_14 rfl rfl rfl rfl rfl h (fun r S5 hq hI hr => ?_)
      obtain ⟨v6, rfl, h⟩ := Qi_ok hq
      replace h := h hI (mokI (hr _ rfl))
      clear hq hr
      refine y_if 17 24 Y dX6_scalePolynomials_17 rfl rfl (fun c => ?_) (fun c => ?_)
      · replace h := h.1 c
        refine y_iconst 24 Y dX6_scalePolynomials_24 rfl ?_
        refine y_istore_n 25 Y [some mt, some (mi a1), some (mi a2), some (mi 0), none] dX6_scalePolynomials_25 rfl rfl ?_
        refine y_iconst 26 Y dX6_scalePolynomials_26 rfl ?_
        refine y_istore 27 Y [some mt, some (mi a1), some (mi a2), some (mi 0), some (mi 0)] dX6_scalePolynomials_27 rfl rfl ?_
        obtain ⟨n1, h⟩ := h
        exact Wk 29 _ [some mt, some (mi a1), some (mi a2), some (mi 0), some (mi 0)] _ _ ⟨rfl, ⟨rfl, ⟨rfl, ⟨rfl, ⟨rfl, trivial⟩⟩⟩⟩⟩ (hIc n1 _ _ _ _ ((⟨rfl, _, _, _, _, rfl, rfl, h⟩)))
      · replace h := h.2 c
        refine y_iconst 20 Y dX6_scalePolynomials_20 rfl ?_
        refine y_goto 21 25 Y dX6_scalePolynomials_21 rfl rfl ?_
        refine y_istore_n 25 Y [some mt, some (mi a1), some (mi a2), some (mi 1), none] dX6_scalePolynomials_25 rfl rfl ?_
        refine y_iconst 26 Y dX6_scalePolynomials_26 rfl ?_
        refine y_istore 27 Y [some mt, some (mi a1), some (mi a2), some (mi 1), some (mi 0)] dX6_scalePolynomials_27 rfl rfl ?_
        obtain ⟨n1, h⟩ := h
        exact Wk 29 _ [some mt, some (mi a1), some (mi a2), some (mi 1), some (mi 0)] _ _ ⟨rfl, ⟨rfl, ⟨rfl, ⟨rfl, ⟨rfl, trivial⟩⟩⟩⟩⟩ (hIc n1 _ _ _ _ ((⟨rfl, _, _, _, _, rfl, rfl, h⟩)))
  · intro n pc L st T hi hS hL P Y Wk hIc
    clear hE
    rcases hi with ⟨rfl, l1, l2, l3, l4, rfl, rfl, hi⟩
    · have h := h29 n l1 l2 l3 l4 T hS (hL 1 _ rfl) (hL 2 _ rfl) (hL 3 _ rfl) (hL 4 _ rfl) hi
      clear hL hi h29
      refine y_iload 29 Y dX6_scalePolynomials_29 rfl ?_
      refine y_bipush 31 Y dX6_scalePolynomials_31 rfl ?_
      refine y_icmp 33 68 Y dX6_scalePolynomials_33 rfl rfl (fun c => ?_) (fun c => ?_)
      · replace h := h.1 c
        refine y_iload_n 68 Y dX6_scalePolynomials_68 rfl ?_
        exact y_zret 69 Y dX6_scalePolynomials_69 rfl h.1 h.2
      · replace h := h.2 c
        refine y_iload_n 36 Y dX6_scalePolynomials_36 rfl ?_
        refine y_if 37 68 Y dX6_scalePolynomials_37 rfl rfl (fun c => ?_) (fun c => ?_)
        · replace h := h.1 c
          refine y_iload_n 68 Y dX6_scalePolynomials_68 rfl ?_
          exact y_zret 69 Y dX6_scalePolynomials_69 rfl h.1 h.2
        · replace h := h.2 c
          refine y_aload_n 40 Y dX6_scalePolynomials_40 rfl ?_
          refine y_iload_n 41 Y dX6_scalePolynomials_41 rfl ?_
          refine y_iload 42 Y dX6_scalePolynomials_42 rfl ?_
          refine y_calls 44 Y (as := [mi l1, mi l4]) [mt] dX6_scalePolynomials_44 rfl rfl rfl rfl rfl h (fun r S1 hq hI hr => ?_)
          obtain ⟨v2, rfl, h⟩ := Qi_ok hq
          replace h := h hI (mokI (hr _ rfl))
          clear hq hr
          refine y_iload_n 47 Y dX6_scalePolynomials_47 rfl ?_
          refine y_iload 48 Y dX6_scalePolynomials_48 rfl ?_
          refine y_calls 50 Y (as := [mi l1, mi l4]) [mi v2, mt] dX6_scalePolynomials_50 rfl rfl rfl rfl rfl h (fun r S3 hq hI hr => ?_)
          obtain ⟨v4, rfl, h⟩ := Qi_ok hq
          replace h := h hI (mokI (hr _ rfl))
          clear hq hr
          refine y_iload_n 53 Y dX6_scalePolynomials_53 rfl ?_
          refine y_iconst 54 Y dX6_scalePolynomials_54 rfl ?_
          refine y_calls 55 Y (as := [mi l2, mi 0]) [mi v4, mi v2, mt] dX6_scalePolynomials_55 rfl rfl rfl rfl rfl h (fun r S5 hq hI hr => ?_)
          obtain ⟨v6, rfl, h⟩ := Qi_ok hq
          replace h := h hI (mokI (hr _ rfl))
          clear hq hr
          refine y_call 58 Y (as := [mi v2, mi v4, mi v6]) [] dX6_scalePolynomials_58 rfl rfl rfl rfl rfl h (fun r S7 hq hI hr => ?_)
          obtain ⟨v8, rfl, h⟩ := Qi_ok hq
          replace h := h hI (mokI (hr _ rfl))
          clear hq hr
          refine y_istore_n 61 Y [some mt, some (mi l1), some (mi l2), some (mi v8), some (mi l4)] dX6_scalePolynomials_61 rfl rfl ?_
          obtain ⟨o9, h⟩ := h
          refine y_iinc 62 Y [some mt, some (mi l1), some (mi l2), some (mi v8), some (mi (l4 + 1))] dX6_scalePolynomials_62 rfl rfl o9 ?_
          refine y_goto 65 29 Y dX6_scalePolynomials_65 rfl rfl ?_
          obtain ⟨n1, hn, h⟩ := h
          exact Wk 29 _ [some mt, some (mi l1), some (mi l2), some (mi v8), some (mi (l4 + 1))] _ _ ⟨rfl, ⟨rfl, ⟨rfl, ⟨rfl, ⟨rfl, trivial⟩⟩⟩⟩⟩ (hIc n1 _ _ _ _ hn ((⟨rfl, _, _, _, _, rfl, rfl, h⟩)))
set_option maxHeartbeats 4000000 in
theorem of_stepWork {g : mG} {S : mS}  {Qp : Option mV → mS → Prop} (I12 : Nat → Int → Int → Int → mS → Prop)
    (hE : mI S → CX_inOrder g [mt, mi 13540] S (Qi fun v2 S1 => mI S1 → (-2147483648 ≤ v2 ∧ v2 ≤ 2147483647) → (∃ n1, I12 n1 v2 0 0 S1)))
    (h12 : ∀ (n : Nat) (l1 l2 l3 : Int) (T : mS), mI T → (-2147483648 ≤ l1 ∧ l1 ≤ 2147483647) → (-2147483648 ≤ l2 ∧ l2 ≤ 2147483647) → (-2147483648 ≤ l3 ∧ l3 ≤ 2147483647) → I12 n l1 l2 l3 T → ((l1 ≤ l3) → ((l2 ≤ 0) → Qp (some (mi 0)) T) ∧ (¬ (l2 ≤ 0) → Qp (some (mi 1)) T)) ∧ (¬ (l1 ≤ l3) → ((l2 ≠ 0) → ((l2 ≤ 0) → Qp (some (mi 0)) T) ∧ (¬ (l2 ≤ 0) → Qp (some (mi 1)) T)) ∧ (¬ (l2 ≠ 0) → (0 ≤ l3) ∧ (l3 < 100) ∧ CX_ruleAt g [mt, mi (T 14 l3)] T (Qi fun v4 S3 => mI S3 → (-2147483648 ≤ v4 ∧ v4 ≤ 2147483647) → ((v4 ≤ 0) → (-2147483648 ≤ ((l3 + 1) : Int) ∧ (l3 + 1) ≤ 2147483647) ∧ (∃ n1, n1 < n ∧ I12 n1 l1 v4 (l3 + 1) S3)) ∧ (¬ (v4 ≤ 0) → (0 ≤ (S3 67 0)) ∧ ((S3 67 0) < 100) ∧ (-2147483648 ≤ (((T 14 l3) - 13540) : Int) ∧ ((T 14 l3) - 13540) ≤ 2147483647) ∧ (-2147483648 ≤ (((S3 67 0) + 1) : Int) ∧ ((S3 67 0) + 1) ≤ 2147483647) ∧ (-2147483648 ≤ ((l3 + 1) : Int) ∧ (l3 + 1) ≤ 2147483647) ∧ (∃ n1, n1 < n ∧ I12 n1 l1 v4 (l3 + 1) (mup (mup (mup S3 65 (S3 67 0) v4) 66 (S3 67 0) ((T 14 l3) - 13540)) 67 0 ((S3 67 0) + 1))))))))
    : CX_stepWork g [mt] S Qp := by
  refine cm_y ⟨by decide, rfl⟩ (by simp [mcat]) (by simp) (fun n pc L st S => (pc = 12 ∧ ∃ (l1 : Int) (l2 : Int) (l3 : Int), L = [some mt, some (mi l1), some (mi l2), some (mi l3), none] ∧ st = [] ∧ I12 n l1 l2 l3 S)) ?_ ?_
  · intro ha hS P Y Wk hIc
    have h := hE hS
    clear hE ha h12
    refine y_aload_n 0 Y dX6_stepWork_0 rfl ?_
    refine y_sipush 1 Y dX6_stepWork_1 rfl ?_
    refine y_call 4 Y (as := [mi 13540]) [] dX6_stepWork_4 rfl rfl rfl rfl rfl h (fun r S1 hq hI hr => ?_)
    obtain ⟨v2, rfl, h⟩ := Qi_ok hq
    replace h := h hI (mokI (hr _ rfl))
    clear hq hr
    refine y_istore_n 7 Y [some mt, some (mi v2), none, none, none] dX6_stepWork_7 rfl rfl ?_
    refine y_iconst 8 Y dX6_stepWork_8 rfl ?_
    refine y_istore_n 9 Y [some mt, some (mi v2), some (mi 0), none, none] dX6_stepWork_9 rfl rfl ?_
    refine y_iconst 10 Y dX6_stepWork_10 rfl ?_
    refine y_istore_n 11 Y [some mt, some (mi v2), some (mi 0), some (mi 0), none] dX6_stepWork_11 rfl rfl ?_
    obtain ⟨n1, h⟩ := h
    exact Wk 12 _ [some mt, some (mi v2), some (mi 0), some (mi 0), none] _ _ ⟨rfl, ⟨rfl, ⟨rfl, ⟨rfl, trivial⟩⟩⟩⟩ (hIc n1 _ _ _ _ ((⟨rfl, _, _, _, rfl, rfl, h⟩)))
  · intro n pc L st T hi hS hL P Y Wk hIc
    clear hE
    rcases hi with ⟨rfl, l1, l2, l3, rfl, rfl, hi⟩
    · have h := h12 n l1 l2 l3 T hS (hL 1 _ rfl) (hL 2 _ rfl) (hL 3 _ rfl) hi
      clear hL hi h12
      refine y_iload_n 12 Y dX6_stepWork_12 rfl ?_
      refine y_iload_n 13 Y dX6_stepWork_13 rfl ?_
      refine y_icmp 14 81 Y dX6_stepWork_14 rfl rfl (fun c => ?_) (fun c => ?_)
      · replace h := h.1 c
        refine y_iload_n 81 Y dX6_stepWork_81 rfl ?_
        refine y_if 82 89 Y dX6_stepWork_82 rfl rfl (fun c => ?_) (fun c => ?_)
        · replace h := h.1 c
          refine y_iconst 89 Y dX6_stepWork_89 rfl ?_
          exact y_zret 90 Y dX6_stepWork_90 rfl (by decide) h
        · replace h := h.2 c
          refine y_iconst 85 Y dX6_stepWork_85 rfl ?_
          refine y_goto 86 90 Y dX6_stepWork_86 rfl rfl ?_
          exact y_zret 90 Y dX6_stepWork_90 rfl (by decide) h
      · replace h := h.2 c
        refine y_iload_n 17 Y dX6_stepWork_17 rfl ?_
        refine y_if 18 81 Y dX6_stepWork_18 rfl rfl (fun c => ?_) (fun c => ?_)
        · replace h := h.1 c
          refine y_iload_n 81 Y dX6_stepWork_81 rfl ?_
          refine y_if 82 89 Y dX6_stepWork_82 rfl rfl (fun c => ?_) (fun c => ?_)
          · replace h := h.1 c
            refine y_iconst 89 Y dX6_stepWork_89 rfl ?_
            exact y_zret 90 Y dX6_stepWork_90 rfl (by decide) h
          · replace h := h.2 c
            refine y_iconst 85 Y dX6_stepWork_85 rfl ?_
            refine y_goto 86 90 Y dX6_stepWork_86 rfl rfl ?_
            exact y_zret 90 Y dX6_stepWork_90 rfl (by decide) h
        · replace h := h.2 c
          refine y_aload_n 21 Y dX6_stepWork_21 rfl ?_
          refine y_geta 22 Y 14 dX6_stepWork_22 rfl rfl ?_
          refine y_iload_n 25 Y dX6_stepWork_25 rfl ?_
          obtain ⟨o1, h⟩ := h
          obtain ⟨o2, h⟩ := h
          refine y_iald 26 Y dX6_stepWork_26 rfl rfl o1 o2 (fun _ => ?_)
          refine y_istore 27 Y [some mt, some (mi l1), some (mi l2), some (mi l3), some (mi (T 14 l3))] dX6_stepWork_27 rfl rfl ?_
          refine y_aload_n 29 Y dX6_stepWork_29 rfl ?_
          refine y_iload 30 Y dX6_stepWork_30 rfl ?_
          refine y_call 32 Y (as := [mi (T 14 l3)]) [] dX6_stepWork_32 rfl rfl rfl rfl rfl h (fun r S3 hq hI hr => ?_)
          obtain ⟨v4, rfl, h⟩ := Qi_ok hq
          replace h := h hI (mokI (hr _ rfl))
          clear hq hr
          refine y_istore_n 35 Y [some mt, some (mi l1), some (mi v4), some (mi l3), some (mi (T 14 l3))] dX6_stepWork_35 rfl rfl ?_
          refine y_iload_n 36 Y dX6_stepWork_36 rfl ?_
          refine y_if 37 75 Y dX6_stepWork_37 rfl rfl (fun c => ?_) (fun c => ?_)
          · replace h := h.1 c
            obtain ⟨o5, h⟩ := h
            refine y_iinc 75 Y [some mt, some (mi l1), some (mi v4), some (mi (l3 + 1)), some (mi (T 14 l3))] dX6_stepWork_75 rfl rfl o5 ?_
            refine y_goto 78 12 Y dX6_stepWork_78 rfl rfl ?_
            obtain ⟨n1, hn, h⟩ := h
            exact Wk 12 _ [some mt, some (mi l1), some (mi v4), some (mi (l3 + 1)), none] _ _ ⟨rfl, ⟨rfl, ⟨rfl, ⟨rfl, trivial⟩⟩⟩⟩ (hIc n1 _ _ _ _ hn ((⟨rfl, _, _, _, rfl, rfl, h⟩)))
          · replace h := h.2 c
            refine y_aload_n 40 Y dX6_stepWork_40 rfl ?_
            refine y_geta 41 Y 65 dX6_stepWork_41 rfl rfl ?_
            refine y_aload_n 44 Y dX6_stepWork_44 rfl ?_
            refine y_getf 45 Y 67 dX6_stepWork_45 rfl rfl (fun _ => ?_)
            refine y_iload_n 48 Y dX6_stepWork_48 rfl ?_
            obtain ⟨o6, h⟩ := h
            obtain ⟨o7, h⟩ := h
            refine y_iast 49 Y dX6_stepWork_49 rfl rfl o6 o7 ?_
            refine y_aload_n 50 Y dX6_stepWork_50 rfl ?_
            refine y_geta 51 Y 66 dX6_stepWork_51 rfl rfl ?_
            refine y_aload_n 54 Y dX6_stepWork_54 rfl ?_
            refine y_getf 55 Y 67 dX6_stepWork_55 rfl rfl (fun _ => ?_)
            refine y_iload 58 Y dX6_stepWork_58 rfl ?_
            refine y_sipush 60 Y dX6_stepWork_60 rfl ?_
            obtain ⟨o8, h⟩ := h
            refine y_isub 63 Y dX6_stepWork_63 o8 ?_
            refine y_iast 64 Y dX6_stepWork_64 rfl rfl o6 o7 ?_
            refine y_aload_n 65 Y dX6_stepWork_65 rfl ?_
            refine y_dup 66 Y dX6_stepWork_66 rfl ?_
            refine y_getf 67 Y 67 dX6_stepWork_67 rfl rfl (fun _ => ?_)
            refine y_iconst 70 Y dX6_stepWork_70 rfl ?_
            obtain ⟨o9, h⟩ := h
            refine y_iadd 71 Y dX6_stepWork_71 o9 ?_
            refine y_putf 72 Y 67 dX6_stepWork_72 rfl rfl (fun q => absurd q (by decide)) ?_
            obtain ⟨o10, h⟩ := h
            refine y_iinc 75 Y [some mt, some (mi l1), some (mi v4), some (mi (l3 + 1)), some (mi (T 14 l3))] dX6_stepWork_75 rfl rfl o10 ?_
            refine y_goto 78 12 Y dX6_stepWork_78 rfl rfl ?_
            obtain ⟨n1, hn, h⟩ := h
            exact Wk 12 _ [some mt, some (mi l1), some (mi v4), some (mi (l3 + 1)), none] _ _ ⟨rfl, ⟨rfl, ⟨rfl, ⟨rfl, trivial⟩⟩⟩⟩ (hIc n1 _ _ _ _ hn ((⟨rfl, _, _, _, rfl, rfl, h⟩)))
set_option maxHeartbeats 4000000 in
theorem of_fault {g : mG} {S : mS}  {Qp : Option mV → mS → Prop}
    (hE : mI S → CX_faultOf g [mt] (mup S 0 0 0) (Qi fun v2 S1 => mI S1 → (-2147483648 ≤ v2 ∧ v2 ≤ 2147483647) → Qp (some (mi v2)) S1))
    : CX_fault g [mt] S Qp := by
  refine cm_y ⟨by decide, rfl⟩ (by simp [mcat]) (by simp) (fun _ _ _ _ _ => False) ?_ ?_
  · intro ha hS P Y Wk hIc
    have h := hE hS
    clear hE ha
    refine y_aload_n 0 Y dX6_fault_0 rfl ?_
    refine y_iconst 1 Y dX6_fault_1 rfl ?_
    refine y_putf 2 Y 0 dX6_fault_2 rfl rfl (fun q => absurd q (by decide)) ?_
    refine y_aload_n 5 Y dX6_fault_5 rfl ?_
    refine y_call 6 Y (as := []) [] dX6_fault_6 rfl rfl rfl rfl rfl h (fun r S1 hq hI hr => ?_)
    obtain ⟨v2, rfl, h⟩ := Qi_ok hq
    replace h := h hI (mokI (hr _ rfl))
    clear hq hr
    exact y_iret 9 Y dX6_fault_9 rfl h
  · intro n pc L st T hi
    exact hi.elim
set_option maxHeartbeats 4000000 in
theorem of_fewest {g : mG} {S : mS} {a1 : Int} {Qp : Option mV → mS → Prop} (I7 : Nat → Int → Int → mS → Prop)
    (hE : mI S → (-2147483648 ≤ a1 ∧ a1 ≤ 2147483647) → CX_wordsOf g [mt, mi a1] S (Qv fun S1 => mI S1 → (∃ n1, I7 n1 a1 0 S1)))
    (h7 : ∀ (n : Nat) (l1 l2 : Int) (T : mS), mI T → (-2147483648 ≤ l1 ∧ l1 ≤ 2147483647) → (-2147483648 ≤ l2 ∧ l2 ≤ 2147483647) → I7 n l1 l2 T → (((T 25 0) ≤ l2) → Qp none T) ∧ (¬ ((T 25 0) ≤ l2) → (0 ≤ l2) ∧ (l2 < 1000) ∧ (((T 23 l2) = (-1)) → (-2147483648 ≤ ((l2 + 1) : Int) ∧ (l2 + 1) ≤ 2147483647) ∧ (∃ n1, n1 < n ∧ I7 n1 l1 (l2 + 1) T)) ∧ (¬ ((T 23 l2) = (-1)) → CX_setGone g [mt, mi l2, mi 1] T (Qv fun S4 => mI S4 → CX_makes g [mt, mi l1] S4 (Qi fun v6 S5 => mI S5 → (-2147483648 ≤ v6 ∧ v6 ≤ 2147483647) → ((v6 ≠ 0) → (-2147483648 ≤ ((l2 + 1) : Int) ∧ (l2 + 1) ≤ 2147483647) ∧ (∃ n1, n1 < n ∧ I7 n1 l1 (l2 + 1) S5)) ∧ (¬ (v6 ≠ 0) → CX_setGone g [mt, mi l2, mi 0] S5 (Qv fun S8 => mI S8 → (-2147483648 ≤ ((l2 + 1) : Int) ∧ (l2 + 1) ≤ 2147483647) ∧ (∃ n1, n1 < n ∧ I7 n1 l1 (l2 + 1) S8))))))))
    : CX_fewest g [mt, mi a1] S Qp := by
  refine cm_y ⟨by decide, rfl⟩ (by simp [mcat]) (by simp) (fun n pc L st S => (pc = 7 ∧ ∃ (l1 : Int) (l2 : Int), L = [some mt, some (mi l1), some (mi l2)] ∧ st = [] ∧ I7 n l1 l2 S)) ?_ ?_
  · intro ha hS P Y Wk hIc
    have h := hE hS (mokI (ha (mi a1) (by simp)))
    clear hE ha h7
    refine y_aload_n 0 Y dX6_fewest_0 rfl ?_
    refine y_iload_n 1 Y dX6_fewest_1 rfl ?_
    refine y_call 2 Y (as := [mi a1]) [] dX6_fewest_2 rfl rfl rfl rfl rfl h (fun r S1 hq hI _ => ?_)
    obtain ⟨rfl, h⟩ := Qv_ok hq
    replace h := h hI
    clear hq
    refine y_iconst 5 Y dX6_fewest_5 rfl ?_
    refine y_istore_n 6 Y [some mt, some (mi a1), some (mi 0)] dX6_fewest_6 rfl rfl ?_
    obtain ⟨n1, h⟩ := h
    exact Wk 7 _ [some mt, some (mi a1), some (mi 0)] _ _ ⟨rfl, ⟨rfl, ⟨rfl, trivial⟩⟩⟩ (hIc n1 _ _ _ _ ((⟨rfl, _, _, rfl, rfl, h⟩)))
  · intro n pc L st T hi hS hL P Y Wk hIc
    clear hE
    rcases hi with ⟨rfl, l1, l2, rfl, rfl, hi⟩
    · have h := h7 n l1 l2 T hS (hL 1 _ rfl) (hL 2 _ rfl) hi
      clear hL hi h7
      refine y_iload_n 7 Y dX6_fewest_7 rfl ?_
      refine y_aload_n 8 Y dX6_fewest_8 rfl ?_
      refine y_getf 9 Y 25 dX6_fewest_9 rfl rfl (fun _ => ?_)
      refine y_icmp 12 51 Y dX6_fewest_12 rfl rfl (fun c => ?_) (fun c => ?_)
      · replace h := h.1 c
        exact y_ret 51 Y dX6_fewest_51 rfl h
      · replace h := h.2 c
        refine y_aload_n 15 Y dX6_fewest_15 rfl ?_
        refine y_geta 16 Y 23 dX6_fewest_16 rfl rfl ?_
        refine y_iload_n 19 Y dX6_fewest_19 rfl ?_
        obtain ⟨o1, h⟩ := h
        obtain ⟨o2, h⟩ := h
        refine y_iald 20 Y dX6_fewest_20 rfl rfl o1 o2 (fun _ => ?_)
        refine y_iconst 21 Y dX6_fewest_21 rfl ?_
        refine y_icmp 22 45 Y dX6_fewest_22 rfl rfl (fun c => ?_) (fun c => ?_)
        · replace h := h.1 c
          obtain ⟨o3, h⟩ := h
          refine y_iinc 45 Y [some mt, some (mi l1), some (mi (l2 + 1))] dX6_fewest_45 rfl rfl o3 ?_
          refine y_goto 48 7 Y dX6_fewest_48 rfl rfl ?_
          obtain ⟨n1, hn, h⟩ := h
          exact Wk 7 _ [some mt, some (mi l1), some (mi (l2 + 1))] _ _ ⟨rfl, ⟨rfl, ⟨rfl, trivial⟩⟩⟩ (hIc n1 _ _ _ _ hn ((⟨rfl, _, _, rfl, rfl, h⟩)))
        · replace h := h.2 c
          refine y_aload_n 25 Y dX6_fewest_25 rfl ?_
          refine y_iload_n 26 Y dX6_fewest_26 rfl ?_
          refine y_iconst 27 Y dX6_fewest_27 rfl ?_
          refine y_call 28 Y (as := [mi l2, mi 1]) [] dX6_fewest_28 rfl rfl rfl rfl rfl h (fun r S4 hq hI _ => ?_)
          obtain ⟨rfl, h⟩ := Qv_ok hq
          replace h := h hI
          clear hq
          refine y_aload_n 31 Y dX6_fewest_31 rfl ?_
          refine y_iload_n 32 Y dX6_fewest_32 rfl ?_
          refine y_call 33 Y (as := [mi l1]) [] dX6_fewest_33 rfl rfl rfl rfl rfl h (fun r S5 hq hI hr => ?_)
          obtain ⟨v6, rfl, h⟩ := Qi_ok hq
          replace h := h hI (mokI (hr _ rfl))
          clear hq hr
          refine y_if 36 45 Y dX6_fewest_36 rfl rfl (fun c => ?_) (fun c => ?_)
          · replace h := h.1 c
            obtain ⟨o7, h⟩ := h
            refine y_iinc 45 Y [some mt, some (mi l1), some (mi (l2 + 1))] dX6_fewest_45 rfl rfl o7 ?_
            refine y_goto 48 7 Y dX6_fewest_48 rfl rfl ?_
            obtain ⟨n1, hn, h⟩ := h
            exact Wk 7 _ [some mt, some (mi l1), some (mi (l2 + 1))] _ _ ⟨rfl, ⟨rfl, ⟨rfl, trivial⟩⟩⟩ (hIc n1 _ _ _ _ hn ((⟨rfl, _, _, rfl, rfl, h⟩)))
          · replace h := h.2 c
            refine y_aload_n 39 Y dX6_fewest_39 rfl ?_
            refine y_iload_n 40 Y dX6_fewest_40 rfl ?_
            refine y_iconst 41 Y dX6_fewest_41 rfl ?_
            refine y_call 42 Y (as := [mi l2, mi 0]) [] dX6_fewest_42 rfl rfl rfl rfl rfl h (fun r S8 hq hI _ => ?_)
            obtain ⟨rfl, h⟩ := Qv_ok hq
            replace h := h hI
            clear hq
            obtain ⟨o9, h⟩ := h
            refine y_iinc 45 Y [some mt, some (mi l1), some (mi (l2 + 1))] dX6_fewest_45 rfl rfl o9 ?_
            refine y_goto 48 7 Y dX6_fewest_48 rfl rfl ?_
            obtain ⟨n1, hn, h⟩ := h
            exact Wk 7 _ [some mt, some (mi l1), some (mi (l2 + 1))] _ _ ⟨rfl, ⟨rfl, ⟨rfl, trivial⟩⟩⟩ (hIc n1 _ _ _ _ hn ((⟨rfl, _, _, rfl, rfl, h⟩)))
set_option maxHeartbeats 4000000 in
theorem of_gatherTwo {g : mG} {S : mS} {a1 a2 : Int} {Qp : Option mV → mS → Prop} (I67 : Nat → Int → Int → Int → Int → Int → mS → Prop)
    (hE : mI S → (-2147483648 ≤ a1 ∧ a1 ≤ 2147483647) → (-2147483648 ≤ a2 ∧ a2 ≤ 2147483647) → (-2147483648 ≤ (((S 68 0) - 1) : Int) ∧ ((S 68 0) - 1) ≤ 2147483647) ∧ (-2147483648 ≤ ((mup S 68 0 ((S 68 0) - 1)) 68 0) ∧ ((mup S 68 0 ((S 68 0) - 1)) 68 0) ≤ 2147483647 → (-2147483648 ≤ ((((mup S 68 0 ((S 68 0) - 1)) 68 0) - 1) : Int) ∧ (((mup S 68 0 ((S 68 0) - 1)) 68 0) - 1) ≤ 2147483647) ∧ (-2147483648 ≤ ((mup S 68 0 ((S 68 0) - 1)) 68 0) ∧ ((mup S 68 0 ((S 68 0) - 1)) 68 0) ≤ 2147483647 → (a2 = 0 → (∃ n1, I67 n1 a2 (((mup S 68 0 ((S 68 0) - 1)) 68 0) - 1) ((mup S 68 0 ((S 68 0) - 1)) 68 0) 1 0 (mup S 68 0 ((S 68 0) - 1)))) ∧ (a2 = 1 → (∃ n1, I67 n1 a2 (((mup S 68 0 ((S 68 0) - 1)) 68 0) - 1) ((mup S 68 0 ((S 68 0) - 1)) 68 0) 1 0 (mup S 68 0 ((S 68 0) - 1)))) ∧ (a2 = 2 → (-2147483648 ≤ ((((mup S 68 0 ((S 68 0) - 1)) 68 0) + 1) : Int) ∧ (((mup S 68 0 ((S 68 0) - 1)) 68 0) + 1) ≤ 2147483647) ∧ CX_multiplyPolynomials g [mt, mi (((mup S 68 0 ((S 68 0) - 1)) 68 0) + 1), mi (((mup S 68 0 ((S 68 0) - 1)) 68 0) - 1), mi ((mup S 68 0 ((S 68 0) - 1)) 68 0)] (mup S 68 0 ((S 68 0) - 1)) (Qi fun v5 S4 => mI S4 → (-2147483648 ≤ v5 ∧ v5 ≤ 2147483647) → CX_copyPolynomial g [mt, mi (((mup S 68 0 ((S 68 0) - 1)) 68 0) - 1), mi (((mup S 68 0 ((S 68 0) - 1)) 68 0) + 1)] S4 (Qv fun S6 => mI S6 → (v5 = 0 ∨ v5 = 1) ∧ Qp (some (mi v5)) S6))) ∧ (a2 = 3 → CX_scalePolynomials g [mt, mi (((mup S 68 0 ((S 68 0) - 1)) 68 0) - 1), mi ((mup S 68 0 ((S 68 0) - 1)) 68 0)] (mup S 68 0 ((S 68 0) - 1)) (Qi fun v8 S7 => mI S7 → (-2147483648 ≤ v8 ∧ v8 ≤ 2147483647) → (v8 = 0 ∨ v8 = 1) ∧ Qp (some (mi v8)) S7)) ∧ (a2 = 4 → Qp (some (mi 0)) (mup S 68 0 ((S 68 0) - 1))) ∧ (a2 = 5 → CX_child g [mt, mi a1, mi 1] (mup S 68 0 ((S 68 0) - 1)) (Qi fun v10 S9 => mI S9 → (-2147483648 ≤ v10 ∧ v10 ≤ 2147483647) → (0 ≤ v10) ∧ (v10 < 20300) ∧ (((S9 4 v10) ≠ 0) → Qp (some (mi 0)) S9) ∧ (¬ ((S9 4 v10) ≠ 0) → ((8 < (S9 5 v10)) → Qp (some (mi 0)) S9) ∧ (¬ (8 < (S9 5 v10)) → CX_raisePolynomial g [mt, mi (((mup S 68 0 ((S 68 0) - 1)) 68 0) - 1), mi (S9 5 v10)] S9 (Qi fun v14 S13 => mI S13 → (-2147483648 ≤ v14 ∧ v14 ≤ 2147483647) → ((v14 = 0) → Qp (some (mi 0)) S13) ∧ (¬ (v14 = 0) → Qp (some (mi 1)) S13)))))) ∧ (a2 < 0 ∨ 5 < a2 → Qp (some (mi 0)) (mup S 68 0 ((S 68 0) - 1))))))
    (h67 : ∀ (n : Nat) (l2 l3 l4 l5 l6 : Int) (T : mS), mI T → (-2147483648 ≤ l2 ∧ l2 ≤ 2147483647) → (-2147483648 ≤ l3 ∧ l3 ≤ 2147483647) → (-2147483648 ≤ l4 ∧ l4 ≤ 2147483647) → (-2147483648 ≤ l5 ∧ l5 ≤ 2147483647) → (-2147483648 ≤ l6 ∧ l6 ≤ 2147483647) → I67 n l2 l3 l4 l5 l6 T → ((9 ≤ l6) → (l5 = 0 ∨ l5 = 1) ∧ Qp (some (mi l5)) T) ∧ (¬ (9 ≤ l6) → ((l5 = 0) → (l5 = 0 ∨ l5 = 1) ∧ Qp (some (mi l5)) T) ∧ (¬ (l5 = 0) → CX_coefficientAt g [mi l3, mi l6] T (Qi fun v2 S1 => mI S1 → (-2147483648 ≤ v2 ∧ v2 ≤ 2147483647) → CX_coefficientAt g [mi l3, mi l6] S1 (Qi fun v4 S3 => mI S3 → (-2147483648 ≤ v4 ∧ v4 ≤ 2147483647) → CX_coefficientAt g [mi l4, mi l6] S3 (Qi fun v6 S5 => mI S5 → (-2147483648 ≤ v6 ∧ v6 ≤ 2147483647) → ((l2 ≠ 0) → CX_addValues g [mt, mi v2, mi v4, mi v6, mi (-1)] S5 (Qi fun v8 S7 => mI S7 → (-2147483648 ≤ v8 ∧ v8 ≤ 2147483647) → (-2147483648 ≤ ((l6 + 1) : Int) ∧ (l6 + 1) ≤ 2147483647) ∧ (∃ n1, n1 < n ∧ I67 n1 l2 l3 l4 v8 (l6 + 1) S7))) ∧ (¬ (l2 ≠ 0) → CX_addValues g [mt, mi v2, mi v4, mi v6, mi 1] S5 (Qi fun v11 S10 => mI S10 → (-2147483648 ≤ v11 ∧ v11 ≤ 2147483647) → (-2147483648 ≤ ((l6 + 1) : Int) ∧ (l6 + 1) ≤ 2147483647) ∧ (∃ n1, n1 < n ∧ I67 n1 l2 l3 l4 v11 (l6 + 1) S10)))))))))
    : CX_gatherTwo g [mt, mi a1, mi a2] S Qp := by
  refine cm_y ⟨by decide, rfl⟩ (by simp [mcat]) (by simp) (fun n pc L st S => (pc = 67 ∧ ∃ (l2 : Int) (l3 : Int) (l4 : Int) (l5 : Int) (l6 : Int), L = [some mt, none, some (mi l2), some (mi l3), some (mi l4), some (mi l5), some (mi l6)] ∧ st = [] ∧ I67 n l2 l3 l4 l5 l6 S)) ?_ ?_
  · intro ha hS P Y Wk hIc
    have h := hE hS (mokI (ha (mi a1) (by simp))) (mokI (ha (mi a2) (by simp)))
    clear hE ha h67
    refine y_aload_n 0 Y dX6_gatherTwo_0 rfl ?_
    refine y_dup 1 Y dX6_gatherTwo_1 rfl ?_
    refine y_getf 2 Y 68 dX6_gatherTwo_2 rfl rfl (fun _ => ?_)
    refine y_iconst 5 Y dX6_gatherTwo_5 rfl ?_
    obtain ⟨o1, h⟩ := h
    refine y_isub 6 Y dX6_gatherTwo_6 o1 ?_
    refine y_putf 7 Y 68 dX6_gatherTwo_7 rfl rfl (fun q => absurd q (by decide)) ?_
    refine y_aload_n 10 Y dX6_gatherTwo_10 rfl ?_
    refine y_getf 11 Y 68 dX6_gatherTwo_11 rfl rfl (fun q => ?_)
    replace h := h q
    refine y_iconst 14 Y dX6_gatherTwo_14 rfl ?_
    obtain ⟨o2, h⟩ := h
    refine y_isub 15 Y dX6_gatherTwo_15 o2 ?_
    refine y_istore_n 16 Y [some mt, some (mi a1), some (mi a2), some (mi (((mup S 68 0 ((S 68 0) - 1)) 68 0) - 1)), none, none, none] dX6_gatherTwo_16 rfl rfl ?_
    refine y_aload_n 17 Y dX6_gatherTwo_17 rfl ?_
    refine y_getf 18 Y 68 dX6_gatherTwo_18 rfl rfl (fun q => ?_)
    replace h := h q
    refine y_istore 21 Y [some mt, some (mi a1), some (mi a2), some (mi (((mup S 68 0 ((S 68 0) - 1)) 68 0) - 1)), some (mi ((mup S 68 0 ((S 68 0) - 1)) 68 0)), none, none] dX6_gatherTwo_21 rfl rfl ?_
    refine y_iconst 23 Y dX6_gatherTwo_23 rfl ?_
    refine y_istore 24 Y [some mt, some (mi a1), some (mi a2), some (mi (((mup S 68 0 ((S 68 0) - 1)) 68 0) - 1)), some (mi ((mup S 68 0 ((S 68 0) - 1)) 68 0)), some (mi 1), none] dX6_gatherTwo_24 rfl rfl ?_
    refine y_iload_n 26 Y dX6_gatherTwo_26 rfl ?_
    refine y_table 27 Y dX6_gatherTwo_27 rfl (And.intro (fun c => ?_) (And.intro (fun c => ?_) (And.intro (fun c => ?_) (And.intro (fun c => ?_) (And.intro (fun c => ?_) (And.intro (fun c => ?_) trivial)))))) (fun c => ?_)
    · replace h := h.1 c
      refine y_iconst 64 Y dX6_gatherTwo_64 rfl ?_
      refine y_istore 65 Y [some mt, some (mi a1), some (mi a2), some (mi (((mup S 68 0 ((S 68 0) - 1)) 68 0) - 1)), some (mi ((mup S 68 0 ((S 68 0) - 1)) 68 0)), some (mi 1), some (mi 0)] dX6_gatherTwo_65 rfl rfl ?_
      obtain ⟨n1, h⟩ := h
      exact Wk 67 _ [some mt, none, some (mi a2), some (mi (((mup S 68 0 ((S 68 0) - 1)) 68 0) - 1)), some (mi ((mup S 68 0 ((S 68 0) - 1)) 68 0)), some (mi 1), some (mi 0)] _ _ ⟨rfl, ⟨rfl, ⟨rfl, ⟨rfl, ⟨rfl, ⟨rfl, trivial⟩⟩⟩⟩⟩⟩ (hIc n1 _ _ _ _ ((⟨rfl, _, _, _, _, _, rfl, rfl, h⟩)))
    · replace h := h.2.1 c
      refine y_iconst 64 Y dX6_gatherTwo_64 rfl ?_
      refine y_istore 65 Y [some mt, some (mi a1), some (mi a2), some (mi (((mup S 68 0 ((S 68 0) - 1)) 68 0) - 1)), some (mi ((mup S 68 0 ((S 68 0) - 1)) 68 0)), some (mi 1), some (mi 0)] dX6_gatherTwo_65 rfl rfl ?_
      obtain ⟨n1, h⟩ := h
      exact Wk 67 _ [some mt, none, some (mi a2), some (mi (((mup S 68 0 ((S 68 0) - 1)) 68 0) - 1)), some (mi ((mup S 68 0 ((S 68 0) - 1)) 68 0)), some (mi 1), some (mi 0)] _ _ ⟨rfl, ⟨rfl, ⟨rfl, ⟨rfl, ⟨rfl, ⟨rfl, trivial⟩⟩⟩⟩⟩⟩ (hIc n1 _ _ _ _ ((⟨rfl, _, _, _, _, _, rfl, rfl, h⟩)))
    · replace h := h.2.2.1 c
      refine y_aload_n 122 Y dX6_gatherTwo_122 rfl ?_
      refine y_iload 123 Y dX6_gatherTwo_123 rfl ?_
      refine y_iconst 125 Y dX6_gatherTwo_125 rfl ?_
      obtain ⟨o3, h⟩ := h
      refine y_iadd 126 Y dX6_gatherTwo_126 o3 ?_
      refine y_iload_n 127 Y dX6_gatherTwo_127 rfl ?_
      refine y_iload 128 Y dX6_gatherTwo_128 rfl ?_
      refine y_call 130 Y (as := [mi (((mup S 68 0 ((S 68 0) - 1)) 68 0) + 1), mi (((mup S 68 0 ((S 68 0) - 1)) 68 0) - 1), mi ((mup S 68 0 ((S 68 0) - 1)) 68 0)]) [] dX6_gatherTwo_130 rfl rfl rfl rfl rfl h (fun r S4 hq hI hr => ?_)
      obtain ⟨v5, rfl, h⟩ := Qi_ok hq
      replace h := h hI (mokI (hr _ rfl))
      clear hq hr
      refine y_istore 133 Y [some mt, some (mi a1), some (mi a2), some (mi (((mup S 68 0 ((S 68 0) - 1)) 68 0) - 1)), some (mi ((mup S 68 0 ((S 68 0) - 1)) 68 0)), some (mi v5), none] dX6_gatherTwo_133 rfl rfl ?_
      refine y_aload_n 135 Y dX6_gatherTwo_135 rfl ?_
      refine y_iload_n 136 Y dX6_gatherTwo_136 rfl ?_
      refine y_iload 137 Y dX6_gatherTwo_137 rfl ?_
      refine y_iconst 139 Y dX6_gatherTwo_139 rfl ?_
      refine y_iadd 140 Y dX6_gatherTwo_140 o3 ?_
      refine y_call 141 Y (as := [mi (((mup S 68 0 ((S 68 0) - 1)) 68 0) - 1), mi (((mup S 68 0 ((S 68 0) - 1)) 68 0) + 1)]) [] dX6_gatherTwo_141 rfl rfl rfl rfl rfl h (fun r S6 hq hI _ => ?_)
      obtain ⟨rfl, h⟩ := Qv_ok hq
      replace h := h hI
      clear hq
      refine y_iload 144 Y dX6_gatherTwo_144 rfl ?_
      exact y_zret 146 Y dX6_gatherTwo_146 rfl h.1 h.2
    · replace h := h.2.2.2.1 c
      refine y_aload_n 147 Y dX6_gatherTwo_147 rfl ?_
      refine y_iload_n 148 Y dX6_gatherTwo_148 rfl ?_
      refine y_iload 149 Y dX6_gatherTwo_149 rfl ?_
      refine y_call 151 Y (as := [mi (((mup S 68 0 ((S 68 0) - 1)) 68 0) - 1), mi ((mup S 68 0 ((S 68 0) - 1)) 68 0)]) [] dX6_gatherTwo_151 rfl rfl rfl rfl rfl h (fun r S7 hq hI hr => ?_)
      obtain ⟨v8, rfl, h⟩ := Qi_ok hq
      replace h := h hI (mokI (hr _ rfl))
      clear hq hr
      exact y_zret 154 Y dX6_gatherTwo_154 rfl h.1 h.2
    · replace h := h.2.2.2.2.1 c
      refine y_iconst 206 Y dX6_gatherTwo_206 rfl ?_
      exact y_zret 207 Y dX6_gatherTwo_207 rfl (by decide) h
    · replace h := h.2.2.2.2.2.1 c
      refine y_aload_n 155 Y dX6_gatherTwo_155 rfl ?_
      refine y_iload_n 156 Y dX6_gatherTwo_156 rfl ?_
      refine y_iconst 157 Y dX6_gatherTwo_157 rfl ?_
      refine y_call 158 Y (as := [mi a1, mi 1]) [] dX6_gatherTwo_158 rfl rfl rfl rfl rfl h (fun r S9 hq hI hr => ?_)
      obtain ⟨v10, rfl, h⟩ := Qi_ok hq
      replace h := h hI (mokI (hr _ rfl))
      clear hq hr
      refine y_istore 161 Y [some mt, some (mi a1), some (mi a2), some (mi (((mup S 68 0 ((S 68 0) - 1)) 68 0) - 1)), some (mi ((mup S 68 0 ((S 68 0) - 1)) 68 0)), some (mi 1), some (mi v10)] dX6_gatherTwo_161 rfl rfl ?_
      refine y_aload_n 163 Y dX6_gatherTwo_163 rfl ?_
      refine y_geta 164 Y 4 dX6_gatherTwo_164 rfl rfl ?_
      refine y_iload 167 Y dX6_gatherTwo_167 rfl ?_
      obtain ⟨o11, h⟩ := h
      obtain ⟨o12, h⟩ := h
      refine y_iald 169 Y dX6_gatherTwo_169 rfl rfl o11 o12 (fun _ => ?_)
      refine y_if 170 204 Y dX6_gatherTwo_170 rfl rfl (fun c => ?_) (fun c => ?_)
      · replace h := h.1 c
        refine y_iconst 204 Y dX6_gatherTwo_204 rfl ?_
        exact y_zret 205 Y dX6_gatherTwo_205 rfl (by decide) h
      · replace h := h.2 c
        refine y_aload_n 173 Y dX6_gatherTwo_173 rfl ?_
        refine y_geta 174 Y 5 dX6_gatherTwo_174 rfl rfl ?_
        refine y_iload 177 Y dX6_gatherTwo_177 rfl ?_
        refine y_iald 179 Y dX6_gatherTwo_179 rfl rfl o11 o12 (fun _ => ?_)
        refine y_bipush 180 Y dX6_gatherTwo_180 rfl ?_
        refine y_icmp 182 204 Y dX6_gatherTwo_182 rfl rfl (fun c => ?_) (fun c => ?_)
        · replace h := h.1 c
          refine y_iconst 204 Y dX6_gatherTwo_204 rfl ?_
          exact y_zret 205 Y dX6_gatherTwo_205 rfl (by decide) h
        · replace h := h.2 c
          refine y_aload_n 185 Y dX6_gatherTwo_185 rfl ?_
          refine y_iload_n 186 Y dX6_gatherTwo_186 rfl ?_
          refine y_aload_n 187 Y dX6_gatherTwo_187 rfl ?_
          refine y_geta 188 Y 5 dX6_gatherTwo_188 rfl rfl ?_
          refine y_iload 191 Y dX6_gatherTwo_191 rfl ?_
          refine y_iald 193 Y dX6_gatherTwo_193 rfl rfl o11 o12 (fun _ => ?_)
          refine y_call 194 Y (as := [mi (((mup S 68 0 ((S 68 0) - 1)) 68 0) - 1), mi (S9 5 v10)]) [] dX6_gatherTwo_194 rfl rfl rfl rfl rfl h (fun r S13 hq hI hr => ?_)
          obtain ⟨v14, rfl, h⟩ := Qi_ok hq
          replace h := h hI (mokI (hr _ rfl))
          clear hq hr
          refine y_if 197 204 Y dX6_gatherTwo_197 rfl rfl (fun c => ?_) (fun c => ?_)
          · replace h := h.1 c
            refine y_iconst 204 Y dX6_gatherTwo_204 rfl ?_
            exact y_zret 205 Y dX6_gatherTwo_205 rfl (by decide) h
          · replace h := h.2 c
            refine y_iconst 200 Y dX6_gatherTwo_200 rfl ?_
            refine y_goto 201 205 Y dX6_gatherTwo_201 rfl rfl ?_
            exact y_zret 205 Y dX6_gatherTwo_205 rfl (by decide) h
    · replace h := h.2.2.2.2.2.2 c
      refine y_iconst 206 Y dX6_gatherTwo_206 rfl ?_
      exact y_zret 207 Y dX6_gatherTwo_207 rfl (by decide) h
  · intro n pc L st T hi hS hL P Y Wk hIc
    clear hE
    rcases hi with ⟨rfl, l2, l3, l4, l5, l6, rfl, rfl, hi⟩
    · have h := h67 n l2 l3 l4 l5 l6 T hS (hL 2 _ rfl) (hL 3 _ rfl) (hL 4 _ rfl) (hL 5 _ rfl) (hL 6 _ rfl) hi
      clear hL hi h67
      refine y_iload 67 Y dX6_gatherTwo_67 rfl ?_
      refine y_bipush 69 Y dX6_gatherTwo_69 rfl ?_
      refine y_icmp 71 119 Y dX6_gatherTwo_71 rfl rfl (fun c => ?_) (fun c => ?_)
      · replace h := h.1 c
        refine y_iload 119 Y dX6_gatherTwo_119 rfl ?_
        exact y_zret 121 Y dX6_gatherTwo_121 rfl h.1 h.2
      · replace h := h.2 c
        refine y_iload 74 Y dX6_gatherTwo_74 rfl ?_
        refine y_if 76 119 Y dX6_gatherTwo_76 rfl rfl (fun c => ?_) (fun c => ?_)
        · replace h := h.1 c
          refine y_iload 119 Y dX6_gatherTwo_119 rfl ?_
          exact y_zret 121 Y dX6_gatherTwo_121 rfl h.1 h.2
        · replace h := h.2 c
          refine y_aload_n 79 Y dX6_gatherTwo_79 rfl ?_
          refine y_iload_n 80 Y dX6_gatherTwo_80 rfl ?_
          refine y_iload 81 Y dX6_gatherTwo_81 rfl ?_
          refine y_calls 83 Y (as := [mi l3, mi l6]) [mt] dX6_gatherTwo_83 rfl rfl rfl rfl rfl h (fun r S1 hq hI hr => ?_)
          obtain ⟨v2, rfl, h⟩ := Qi_ok hq
          replace h := h hI (mokI (hr _ rfl))
          clear hq hr
          refine y_iload_n 86 Y dX6_gatherTwo_86 rfl ?_
          refine y_iload 87 Y dX6_gatherTwo_87 rfl ?_
          refine y_calls 89 Y (as := [mi l3, mi l6]) [mi v2, mt] dX6_gatherTwo_89 rfl rfl rfl rfl rfl h (fun r S3 hq hI hr => ?_)
          obtain ⟨v4, rfl, h⟩ := Qi_ok hq
          replace h := h hI (mokI (hr _ rfl))
          clear hq hr
          refine y_iload 92 Y dX6_gatherTwo_92 rfl ?_
          refine y_iload 94 Y dX6_gatherTwo_94 rfl ?_
          refine y_calls 96 Y (as := [mi l4, mi l6]) [mi v4, mi v2, mt] dX6_gatherTwo_96 rfl rfl rfl rfl rfl h (fun r S5 hq hI hr => ?_)
          obtain ⟨v6, rfl, h⟩ := Qi_ok hq
          replace h := h hI (mokI (hr _ rfl))
          clear hq hr
          refine y_iload_n 99 Y dX6_gatherTwo_99 rfl ?_
          refine y_if 100 107 Y dX6_gatherTwo_100 rfl rfl (fun c => ?_) (fun c => ?_)
          · replace h := h.1 c
            refine y_iconst 107 Y dX6_gatherTwo_107 rfl ?_
            refine y_call 108 Y (as := [mi v2, mi v4, mi v6, mi (-1)]) [] dX6_gatherTwo_108 rfl rfl rfl rfl rfl h (fun r S7 hq hI hr => ?_)
            obtain ⟨v8, rfl, h⟩ := Qi_ok hq
            replace h := h hI (mokI (hr _ rfl))
            clear hq hr
            refine y_istore 111 Y [some mt, none, some (mi l2), some (mi l3), some (mi l4), some (mi v8), some (mi l6)] dX6_gatherTwo_111 rfl rfl ?_
            obtain ⟨o9, h⟩ := h
            refine y_iinc 113 Y [some mt, none, some (mi l2), some (mi l3), some (mi l4), some (mi v8), some (mi (l6 + 1))] dX6_gatherTwo_113 rfl rfl o9 ?_
            refine y_goto 116 67 Y dX6_gatherTwo_116 rfl rfl ?_
            obtain ⟨n1, hn, h⟩ := h
            exact Wk 67 _ [some mt, none, some (mi l2), some (mi l3), some (mi l4), some (mi v8), some (mi (l6 + 1))] _ _ ⟨rfl, ⟨rfl, ⟨rfl, ⟨rfl, ⟨rfl, ⟨rfl, trivial⟩⟩⟩⟩⟩⟩ (hIc n1 _ _ _ _ hn ((⟨rfl, _, _, _, _, _, rfl, rfl, h⟩)))
          · replace h := h.2 c
            refine y_iconst 103 Y dX6_gatherTwo_103 rfl ?_
            refine y_goto 104 108 Y dX6_gatherTwo_104 rfl rfl ?_
            refine y_call 108 Y (as := [mi v2, mi v4, mi v6, mi 1]) [] dX6_gatherTwo_108 rfl rfl rfl rfl rfl h (fun r S10 hq hI hr => ?_)
            obtain ⟨v11, rfl, h⟩ := Qi_ok hq
            replace h := h hI (mokI (hr _ rfl))
            clear hq hr
            refine y_istore 111 Y [some mt, none, some (mi l2), some (mi l3), some (mi l4), some (mi v11), some (mi l6)] dX6_gatherTwo_111 rfl rfl ?_
            obtain ⟨o12, h⟩ := h
            refine y_iinc 113 Y [some mt, none, some (mi l2), some (mi l3), some (mi l4), some (mi v11), some (mi (l6 + 1))] dX6_gatherTwo_113 rfl rfl o12 ?_
            refine y_goto 116 67 Y dX6_gatherTwo_116 rfl rfl ?_
            obtain ⟨n1, hn, h⟩ := h
            exact Wk 67 _ [some mt, none, some (mi l2), some (mi l3), some (mi l4), some (mi v11), some (mi (l6 + 1))] _ _ ⟨rfl, ⟨rfl, ⟨rfl, ⟨rfl, ⟨rfl, ⟨rfl, trivial⟩⟩⟩⟩⟩⟩ (hIc n1 _ _ _ _ hn ((⟨rfl, _, _, _, _, _, rfl, rfl, h⟩)))
set_option maxHeartbeats 4000000 in
theorem of_one {g : mG} {S : mS} {a1 a2 : Int} {Qp : Option mV → mS → Prop}
    (hE : mI S → (-2147483648 ≤ a1 ∧ a1 ≤ 2147483647) → (-2147483648 ≤ a2 ∧ a2 ≤ 2147483647) → ((a1 ≠ 13) → ((a1 ≠ 11) → CX_sign_2 g [mt, mi a2] S (Qi fun v2 S1 => mI S1 → (-2147483648 ≤ v2 ∧ v2 ≤ 2147483647) → ((v2 ≠ 0) → CX_setInt g [mt, mi a2, mi 0] S1 (Qv fun S3 => mI S3 → Qp (some (mi 0)) S3)) ∧ (¬ (v2 ≠ 0) → CX_setInt g [mt, mi a2, mi 1] S1 (Qv fun S4 => mI S4 → Qp (some (mi 0)) S4)))) ∧ (¬ (a1 ≠ 11) → (-2147483648 ≤ ((28 * a2) : Int) ∧ (28 * a2) ≤ 2147483647) ∧ CX_sign_2 g [mt, mi a2] S (Qi fun v7 S6 => mI S6 → (-2147483648 ≤ v7 ∧ v7 ≤ 2147483647) → (-2147483648 ≤ ((-v7) : Int) ∧ (-v7) ≤ 2147483647) ∧ (0 ≤ (28 * a2)) ∧ ((28 * a2) < 104160) ∧ Qp (some (mi 0)) (mup S6 3 (28 * a2) (-v7))))) ∧ (¬ (a1 ≠ 13) → CX_factorial g [mt, mi a2, mi a2] S (Qi fun v12 S11 => mI S11 → (-2147483648 ≤ v12 ∧ v12 ≤ 2147483647) → Qp (some (mi v12)) S11)))
    : CX_one g [mt, mi a1, mi a2] S Qp := by
  refine cm_y ⟨by decide, rfl⟩ (by simp [mcat]) (by simp) (fun _ _ _ _ _ => False) ?_ ?_
  · intro ha hS P Y Wk hIc
    have h := hE hS (mokI (ha (mi a1) (by simp))) (mokI (ha (mi a2) (by simp)))
    clear hE ha
    refine y_iload_n 0 Y dX6_one_0 rfl ?_
    refine y_bipush 1 Y dX6_one_1 rfl ?_
    refine y_icmp 3 13 Y dX6_one_3 rfl rfl (fun c => ?_) (fun c => ?_)
    · replace h := h.1 c
      refine y_iload_n 13 Y dX6_one_13 rfl ?_
      refine y_bipush 14 Y dX6_one_14 rfl ?_
      refine y_icmp 16 37 Y dX6_one_16 rfl rfl (fun c => ?_) (fun c => ?_)
      · replace h := h.1 c
        refine y_aload_n 37 Y dX6_one_37 rfl ?_
        refine y_iload_n 38 Y dX6_one_38 rfl ?_
        refine y_aload_n 39 Y dX6_one_39 rfl ?_
        refine y_iload_n 40 Y dX6_one_40 rfl ?_
        refine y_call 41 Y (as := [mi a2]) [mi a2, mt] dX6_one_41 rfl rfl rfl rfl rfl h (fun r S1 hq hI hr => ?_)
        obtain ⟨v2, rfl, h⟩ := Qi_ok hq
        replace h := h hI (mokI (hr _ rfl))
        clear hq hr
        refine y_if 44 51 Y dX6_one_44 rfl rfl (fun c => ?_) (fun c => ?_)
        · replace h := h.1 c
          refine y_iconst 51 Y dX6_one_51 rfl ?_
          refine y_call 52 Y (as := [mi a2, mi 0]) [] dX6_one_52 rfl rfl rfl rfl rfl h (fun r S3 hq hI _ => ?_)
          obtain ⟨rfl, h⟩ := Qv_ok hq
          replace h := h hI
          clear hq
          refine y_iconst 55 Y dX6_one_55 rfl ?_
          exact y_iret 56 Y dX6_one_56 rfl h
        · replace h := h.2 c
          refine y_iconst 47 Y dX6_one_47 rfl ?_
          refine y_goto 48 52 Y dX6_one_48 rfl rfl ?_
          refine y_call 52 Y (as := [mi a2, mi 1]) [] dX6_one_52 rfl rfl rfl rfl rfl h (fun r S4 hq hI _ => ?_)
          obtain ⟨rfl, h⟩ := Qv_ok hq
          replace h := h hI
          clear hq
          refine y_iconst 55 Y dX6_one_55 rfl ?_
          exact y_iret 56 Y dX6_one_56 rfl h
      · replace h := h.2 c
        refine y_aload_n 19 Y dX6_one_19 rfl ?_
        refine y_geta 20 Y 3 dX6_one_20 rfl rfl ?_
        refine y_bipush 23 Y dX6_one_23 rfl ?_
        refine y_iload_n 25 Y dX6_one_25 rfl ?_
        obtain ⟨o5, h⟩ := h
        refine y_imul 26 Y dX6_one_26 o5 ?_
        refine y_aload_n 27 Y dX6_one_27 rfl ?_
        refine y_iload_n 28 Y dX6_one_28 rfl ?_
        refine y_call 29 Y (as := [mi a2]) [mi (28 * a2), mr 3] dX6_one_29 rfl rfl rfl rfl rfl h (fun r S6 hq hI hr => ?_)
        obtain ⟨v7, rfl, h⟩ := Qi_ok hq
        replace h := h hI (mokI (hr _ rfl))
        clear hq hr
        obtain ⟨o8, h⟩ := h
        refine y_ineg 32 Y dX6_one_32 o8 ?_
        obtain ⟨o9, h⟩ := h
        obtain ⟨o10, h⟩ := h
        refine y_iast 33 Y dX6_one_33 rfl rfl o9 o10 ?_
        refine y_goto 34 55 Y dX6_one_34 rfl rfl ?_
        refine y_iconst 55 Y dX6_one_55 rfl ?_
        exact y_iret 56 Y dX6_one_56 rfl h
    · replace h := h.2 c
      refine y_aload_n 6 Y dX6_one_6 rfl ?_
      refine y_iload_n 7 Y dX6_one_7 rfl ?_
      refine y_iload_n 8 Y dX6_one_8 rfl ?_
      refine y_call 9 Y (as := [mi a2, mi a2]) [] dX6_one_9 rfl rfl rfl rfl rfl h (fun r S11 hq hI hr => ?_)
      obtain ⟨v12, rfl, h⟩ := Qi_ok hq
      replace h := h hI (mokI (hr _ rfl))
      clear hq hr
      exact y_iret 12 Y dX6_one_12 rfl h
  · intro n pc L st T hi
    exact hi.elim
set_option maxHeartbeats 4000000 in
theorem of_partOfPower {g : mG} {S : mS} {a1 a2 : Int} {Qp : Option mV → mS → Prop}
    (hE : mI S → (-2147483648 ≤ a1 ∧ a1 ≤ 2147483647) → (-2147483648 ≤ a2 ∧ a2 ≤ 2147483647) → (-2147483648 ≤ ((a2 - 1) : Int) ∧ (a2 - 1) ≤ 2147483647) ∧ CX_raise g [mt, mi 3602, mi a1, mi (a2 - 1)] S (Qi fun v3 S2 => mI S2 → (-2147483648 ≤ v3 ∧ v3 ≤ 2147483647) → CX_setInt g [mt, mi 3603, mi a2] S2 (Qv fun S4 => mI S4 → CX_loadNumerator g [mt, mi 2, mi 3602] S4 (Qv fun S5 => mI S5 → CX_loadNumerator g [mt, mi 3, mi 3603] S5 (Qv fun S6 => mI S6 → CX_times g [mt, mi 4, mi 2, mi 3] S6 (Qv fun S7 => mI S7 → (-2147483648 ≤ ((a1 + 1) : Int) ∧ (a1 + 1) ≤ 2147483647) ∧ CX_loadNumerator g [mt, mi 2, mi (a1 + 1)] S7 (Qv fun S9 => mI S9 → CX_times g [mt, mi 0, mi 4, mi 2] S9 (Qv fun S10 => mI S10 → CX_loadDenominator g [mt, mi 2, mi 3602] S10 (Qv fun S11 => mI S11 → CX_loadDenominator g [mt, mi 3, mi (a1 + 1)] S11 (Qv fun S12 => mI S12 → CX_times g [mt, mi 1, mi 2, mi 3] S12 (Qv fun S13 => mI S13 → CX_sign_2 g [mt, mi 3602] S13 (Qi fun v15 S14 => mI S14 → (-2147483648 ≤ v15 ∧ v15 ≤ 2147483647) → CX_sign_2 g [mt, mi (a1 + 1)] S14 (Qi fun v17 S16 => mI S16 → (-2147483648 ≤ v17 ∧ v17 ≤ 2147483647) → (-2147483648 ≤ ((v15 * v17) : Int) ∧ (v15 * v17) ≤ 2147483647) ∧ CX_store g [mt, mi (a1 + 1), mi (v15 * v17)] S16 (Qi fun v20 S19 => mI S19 → (-2147483648 ≤ v20 ∧ v20 ≤ 2147483647) → (v20 = 0 ∨ v20 = 1) ∧ Qp (some (mi v20)) S19))))))))))))))
    : CX_partOfPower g [mt, mi a1, mi a2] S Qp := by
  refine cm_y ⟨by decide, rfl⟩ (by simp [mcat]) (by simp) (fun _ _ _ _ _ => False) ?_ ?_
  · intro ha hS P Y Wk hIc
    have h := hE hS (mokI (ha (mi a1) (by simp))) (mokI (ha (mi a2) (by simp)))
    clear hE ha
    refine y_sipush 0 Y dX6_partOfPower_0 rfl ?_
    refine y_istore_n 3 Y [some mt, some (mi a1), some (mi a2), some (mi 3602)] dX6_partOfPower_3 rfl rfl ?_
    refine y_aload_n 4 Y dX6_partOfPower_4 rfl ?_
    refine y_iload_n 5 Y dX6_partOfPower_5 rfl ?_
    refine y_iload_n 6 Y dX6_partOfPower_6 rfl ?_
    refine y_iload_n 7 Y dX6_partOfPower_7 rfl ?_
    refine y_iconst 8 Y dX6_partOfPower_8 rfl ?_
    obtain ⟨o1, h⟩ := h
    refine y_isub 9 Y dX6_partOfPower_9 o1 ?_
    refine y_call 10 Y (as := [mi 3602, mi a1, mi (a2 - 1)]) [] dX6_partOfPower_10 rfl rfl rfl rfl rfl h (fun r S2 hq hI hr => ?_)
    obtain ⟨v3, rfl, h⟩ := Qi_ok hq
    replace h := h hI (mokI (hr _ rfl))
    clear hq hr
    refine y_pop 13 Y dX6_partOfPower_13 rfl ?_
    refine y_aload_n 14 Y dX6_partOfPower_14 rfl ?_
    refine y_sipush 15 Y dX6_partOfPower_15 rfl ?_
    refine y_iload_n 18 Y dX6_partOfPower_18 rfl ?_
    refine y_call 19 Y (as := [mi 3603, mi a2]) [] dX6_partOfPower_19 rfl rfl rfl rfl rfl h (fun r S4 hq hI _ => ?_)
    obtain ⟨rfl, h⟩ := Qv_ok hq
    replace h := h hI
    clear hq
    refine y_aload_n 22 Y dX6_partOfPower_22 rfl ?_
    refine y_iconst 23 Y dX6_partOfPower_23 rfl ?_
    refine y_iload_n 24 Y dX6_partOfPower_24 rfl ?_
    refine y_call 25 Y (as := [mi 2, mi 3602]) [] dX6_partOfPower_25 rfl rfl rfl rfl rfl h (fun r S5 hq hI _ => ?_)
    obtain ⟨rfl, h⟩ := Qv_ok hq
    replace h := h hI
    clear hq
    refine y_aload_n 28 Y dX6_partOfPower_28 rfl ?_
    refine y_iconst 29 Y dX6_partOfPower_29 rfl ?_
    refine y_sipush 30 Y dX6_partOfPower_30 rfl ?_
    refine y_call 33 Y (as := [mi 3, mi 3603]) [] dX6_partOfPower_33 rfl rfl rfl rfl rfl h (fun r S6 hq hI _ => ?_)
    obtain ⟨rfl, h⟩ := Qv_ok hq
    replace h := h hI
    clear hq
    refine y_aload_n 36 Y dX6_partOfPower_36 rfl ?_
    refine y_iconst 37 Y dX6_partOfPower_37 rfl ?_
    refine y_iconst 38 Y dX6_partOfPower_38 rfl ?_
    refine y_iconst 39 Y dX6_partOfPower_39 rfl ?_
    refine y_call 40 Y (as := [mi 4, mi 2, mi 3]) [] dX6_partOfPower_40 rfl rfl rfl rfl rfl h (fun r S7 hq hI _ => ?_)
    obtain ⟨rfl, h⟩ := Qv_ok hq
    replace h := h hI
    clear hq
    refine y_aload_n 43 Y dX6_partOfPower_43 rfl ?_
    refine y_iconst 44 Y dX6_partOfPower_44 rfl ?_
    refine y_iload_n 45 Y dX6_partOfPower_45 rfl ?_
    refine y_iconst 46 Y dX6_partOfPower_46 rfl ?_
    obtain ⟨o8, h⟩ := h
    refine y_iadd 47 Y dX6_partOfPower_47 o8 ?_
    refine y_call 48 Y (as := [mi 2, mi (a1 + 1)]) [] dX6_partOfPower_48 rfl rfl rfl rfl rfl h (fun r S9 hq hI _ => ?_)
    obtain ⟨rfl, h⟩ := Qv_ok hq
    replace h := h hI
    clear hq
    refine y_aload_n 51 Y dX6_partOfPower_51 rfl ?_
    refine y_iconst 52 Y dX6_partOfPower_52 rfl ?_
    refine y_iconst 53 Y dX6_partOfPower_53 rfl ?_
    refine y_iconst 54 Y dX6_partOfPower_54 rfl ?_
    refine y_call 55 Y (as := [mi 0, mi 4, mi 2]) [] dX6_partOfPower_55 rfl rfl rfl rfl rfl h (fun r S10 hq hI _ => ?_)
    obtain ⟨rfl, h⟩ := Qv_ok hq
    replace h := h hI
    clear hq
    refine y_aload_n 58 Y dX6_partOfPower_58 rfl ?_
    refine y_iconst 59 Y dX6_partOfPower_59 rfl ?_
    refine y_iload_n 60 Y dX6_partOfPower_60 rfl ?_
    refine y_call 61 Y (as := [mi 2, mi 3602]) [] dX6_partOfPower_61 rfl rfl rfl rfl rfl h (fun r S11 hq hI _ => ?_)
    obtain ⟨rfl, h⟩ := Qv_ok hq
    replace h := h hI
    clear hq
    refine y_aload_n 64 Y dX6_partOfPower_64 rfl ?_
    refine y_iconst 65 Y dX6_partOfPower_65 rfl ?_
    refine y_iload_n 66 Y dX6_partOfPower_66 rfl ?_
    refine y_iconst 67 Y dX6_partOfPower_67 rfl ?_
    refine y_iadd 68 Y dX6_partOfPower_68 o8 ?_
    refine y_call 69 Y (as := [mi 3, mi (a1 + 1)]) [] dX6_partOfPower_69 rfl rfl rfl rfl rfl h (fun r S12 hq hI _ => ?_)
    obtain ⟨rfl, h⟩ := Qv_ok hq
    replace h := h hI
    clear hq
    refine y_aload_n 72 Y dX6_partOfPower_72 rfl ?_
    refine y_iconst 73 Y dX6_partOfPower_73 rfl ?_
    refine y_iconst 74 Y dX6_partOfPower_74 rfl ?_
    refine y_iconst 75 Y dX6_partOfPower_75 rfl ?_
    refine y_call 76 Y (as := [mi 1, mi 2, mi 3]) [] dX6_partOfPower_76 rfl rfl rfl rfl rfl h (fun r S13 hq hI _ => ?_)
    obtain ⟨rfl, h⟩ := Qv_ok hq
    replace h := h hI
    clear hq
    refine y_aload_n 79 Y dX6_partOfPower_79 rfl ?_
    refine y_iload_n 80 Y dX6_partOfPower_80 rfl ?_
    refine y_iconst 81 Y dX6_partOfPower_81 rfl ?_
    refine y_iadd 82 Y dX6_partOfPower_82 o8 ?_
    refine y_aload_n 83 Y dX6_partOfPower_83 rfl ?_
    refine y_iload_n 84 Y dX6_partOfPower_84 rfl ?_
    refine y_call 85 Y (as := [mi 3602]) [mi (a1 + 1), mt] dX6_partOfPower_85 rfl rfl rfl rfl rfl h (fun r S14 hq hI hr => ?_)
    obtain ⟨v15, rfl, h⟩ := Qi_ok hq
    replace h := h hI (mokI (hr _ rfl))
    clear hq hr
    refine y_aload_n 88 Y dX6_partOfPower_88 rfl ?_
    refine y_iload_n 89 Y dX6_partOfPower_89 rfl ?_
    refine y_iconst 90 Y dX6_partOfPower_90 rfl ?_
    refine y_iadd 91 Y dX6_partOfPower_91 o8 ?_
    refine y_call 92 Y (as := [mi (a1 + 1)]) [mi v15, mi (a1 + 1), mt] dX6_partOfPower_92 rfl rfl rfl rfl rfl h (fun r S16 hq hI hr => ?_)
    obtain ⟨v17, rfl, h⟩ := Qi_ok hq
    replace h := h hI (mokI (hr _ rfl))
    clear hq hr
    obtain ⟨o18, h⟩ := h
    refine y_imul 95 Y dX6_partOfPower_95 o18 ?_
    refine y_call 96 Y (as := [mi (a1 + 1), mi (v15 * v17)]) [] dX6_partOfPower_96 rfl rfl rfl rfl rfl h (fun r S19 hq hI hr => ?_)
    obtain ⟨v20, rfl, h⟩ := Qi_ok hq
    replace h := h hI (mokI (hr _ rfl))
    clear hq hr
    exact y_zret 99 Y dX6_partOfPower_99 rfl h.1 h.2
  · intro n pc L st T hi
    exact hi.elim
set_option maxHeartbeats 4000000 in
theorem of_power {g : mG} {S : mS} {a1 a2 a3 : Int} {Qp : Option mV → mS → Prop} (I32 : Nat → Int → Int → Int → mS → Prop) (I102 : Nat → Int → Int → mS → Prop) (I115 : Nat → Int → mS → Prop)
    (hE : mI S → (-2147483648 ≤ a1 ∧ a1 ≤ 2147483647) → (-2147483648 ≤ a2 ∧ a2 ≤ 2147483647) → (-2147483648 ≤ a3 ∧ a3 ≤ 2147483647) → CX_isWhole g [mt, mi a3] S (Qi fun v2 S1 => mI S1 → (-2147483648 ≤ v2 ∧ v2 ≤ 2147483647) → ((v2 ≠ 0) → CX_small g [mt, mi a3] S1 (Qi fun v4 S3 => mI S3 → (-2147483648 ≤ v4 ∧ v4 ≤ 2147483647) → CX_sign_2 g [mt, mi a2] S3 (Qi fun v6 S5 => mI S5 → (-2147483648 ≤ v6 ∧ v6 ≤ 2147483647) → ((v6 ≠ 0) → (∃ n1, I32 n1 a1 a2 v4 S5)) ∧ (¬ (v6 ≠ 0) → ((0 ≤ v4) → (∃ n1, I32 n1 a1 a2 v4 S5)) ∧ (¬ (0 ≤ v4) → Qp (some (mi 1)) S5))))) ∧ (¬ (v2 ≠ 0) → Qp (some (mi 2)) S1)))
    (h32 : ∀ (n : Nat) (l1 l2 l4 : Int) (T : mS), mI T → (-2147483648 ≤ l1 ∧ l1 ≤ 2147483647) → (-2147483648 ≤ l2 ∧ l2 ≤ 2147483647) → (-2147483648 ≤ l4 ∧ l4 ≤ 2147483647) → I32 n l1 l2 l4 T → CX_in g [mi l4, mi (-64), mi 64] T (Qi fun v2 S1 => mI S1 → (-2147483648 ≤ v2 ∧ v2 ≤ 2147483647) → ((v2 ≠ 0) → ((0 ≤ l4) → CX_raise g [mt, mi 3600, mi l2, mi l4] S1 (Qi fun v4 S3 => mI S3 → (-2147483648 ≤ v4 ∧ v4 ≤ 2147483647) → ((v4 = 0) → (∃ n1, n1 < n ∧ I102 n1 l1 v4 S3)) ∧ (¬ (v4 = 0) → ((0 ≤ l4) → (∃ n1, n1 < n ∧ I102 n1 l1 v4 S3)) ∧ (¬ (0 ≤ l4) → CX_setInt g [mt, mi 3601, mi 1] S3 (Qv fun S5 => mI S5 → CX_divideValues g [mt, mi 3600, mi 3601, mi 3600] S5 (Qi fun v7 S6 => mI S6 → (-2147483648 ≤ v7 ∧ v7 ≤ 2147483647) → (∃ n1, n1 < n ∧ I102 n1 l1 v7 S6))))))) ∧ (¬ (0 ≤ l4) → (-2147483648 ≤ ((-l4) : Int) ∧ (-l4) ≤ 2147483647) ∧ CX_raise g [mt, mi 3600, mi l2, mi (-l4)] S1 (Qi fun v10 S9 => mI S9 → (-2147483648 ≤ v10 ∧ v10 ≤ 2147483647) → ((v10 = 0) → (∃ n1, n1 < n ∧ I102 n1 l1 v10 S9)) ∧ (¬ (v10 = 0) → ((0 ≤ l4) → (∃ n1, n1 < n ∧ I102 n1 l1 v10 S9)) ∧ (¬ (0 ≤ l4) → CX_setInt g [mt, mi 3601, mi 1] S9 (Qv fun S11 => mI S11 → CX_divideValues g [mt, mi 3600, mi 3601, mi 3600] S11 (Qi fun v13 S12 => mI S12 → (-2147483648 ≤ v13 ∧ v13 ≤ 2147483647) → (∃ n1, n1 < n ∧ I102 n1 l1 v13 S12)))))))) ∧ (¬ (v2 ≠ 0) → Qp (some (mi 3)) S1)))
    (h102 : ∀ (n : Nat) (l1 l5 : Int) (T : mS), mI T → (-2147483648 ≤ l1 ∧ l1 ≤ 2147483647) → (-2147483648 ≤ l5 ∧ l5 ≤ 2147483647) → I102 n l1 l5 T → ((l5 = 0) → (∃ n1, n1 < n ∧ I115 n1 l5 T)) ∧ (¬ (l5 = 0) → CX_copyValue g [mt, mi l1, mi 3600] T (Qv fun S1 => mI S1 → (∃ n1, n1 < n ∧ I115 n1 l5 S1))))
    (h115 : ∀ (n : Nat) (l5 : Int) (T : mS), mI T → (-2147483648 ≤ l5 ∧ l5 ≤ 2147483647) → I115 n l5 T → ((l5 = 0) → Qp (some (mi 3)) T) ∧ (¬ (l5 = 0) → Qp (some (mi 0)) T))
    : CX_power g [mt, mi a1, mi a2, mi a3] S Qp := by
  refine cm_y ⟨by decide, rfl⟩ (by simp [mcat]) (by simp) (fun n pc L st S => (pc = 32 ∧ ∃ (l1 : Int) (l2 : Int) (l4 : Int), L = [some mt, some (mi l1), some (mi l2), none, some (mi l4), none] ∧ st = [] ∧ I32 n l1 l2 l4 S) ∨ (pc = 102 ∧ ∃ (l1 : Int) (l5 : Int), L = [some mt, some (mi l1), none, none, none, some (mi l5)] ∧ st = [] ∧ I102 n l1 l5 S) ∨ (pc = 115 ∧ ∃ (l5 : Int), L = [some mt, none, none, none, none, some (mi l5)] ∧ st = [] ∧ I115 n l5 S)) ?_ ?_
  · intro ha hS P Y Wk hIc
    have h := hE hS (mokI (ha (mi a1) (by simp))) (mokI (ha (mi a2) (by simp))) (mokI (ha (mi a3) (by simp)))
    clear hE ha h32 h102 h115
    refine y_aload_n 0 Y dX6_power_0 rfl ?_
    refine y_iload_n 1 Y dX6_power_1 rfl ?_
    refine y_call 2 Y (as := [mi a3]) [] dX6_power_2 rfl rfl rfl rfl rfl h (fun r S1 hq hI hr => ?_)
    obtain ⟨v2, rfl, h⟩ := Qi_ok hq
    replace h := h hI (mokI (hr _ rfl))
    clear hq hr
    refine y_if 5 10 Y dX6_power_5 rfl rfl (fun c => ?_) (fun c => ?_)
    · replace h := h.1 c
      refine y_aload_n 10 Y dX6_power_10 rfl ?_
      refine y_iload_n 11 Y dX6_power_11 rfl ?_
      refine y_call 12 Y (as := [mi a3]) [] dX6_power_12 rfl rfl rfl rfl rfl h (fun r S3 hq hI hr => ?_)
      obtain ⟨v4, rfl, h⟩ := Qi_ok hq
      replace h := h hI (mokI (hr _ rfl))
      clear hq hr
      refine y_istore 15 Y [some mt, some (mi a1), some (mi a2), some (mi a3), some (mi v4), none] dX6_power_15 rfl rfl ?_
      refine y_aload_n 17 Y dX6_power_17 rfl ?_
      refine y_iload_n 18 Y dX6_power_18 rfl ?_
      refine y_call 19 Y (as := [mi a2]) [] dX6_power_19 rfl rfl rfl rfl rfl h (fun r S5 hq hI hr => ?_)
      obtain ⟨v6, rfl, h⟩ := Qi_ok hq
      replace h := h hI (mokI (hr _ rfl))
      clear hq hr
      refine y_if 22 32 Y dX6_power_22 rfl rfl (fun c => ?_) (fun c => ?_)
      · replace h := h.1 c
        obtain ⟨n1, h⟩ := h
        exact Wk 32 _ [some mt, some (mi a1), some (mi a2), none, some (mi v4), none] _ _ ⟨rfl, ⟨rfl, ⟨rfl, ⟨rfl, trivial⟩⟩⟩⟩ (hIc n1 _ _ _ _ (Or.inl (⟨rfl, _, _, _, rfl, rfl, h⟩)))
      · replace h := h.2 c
        refine y_iload 25 Y dX6_power_25 rfl ?_
        refine y_if 27 32 Y dX6_power_27 rfl rfl (fun c => ?_) (fun c => ?_)
        · replace h := h.1 c
          obtain ⟨n1, h⟩ := h
          exact Wk 32 _ [some mt, some (mi a1), some (mi a2), none, some (mi v4), none] _ _ ⟨rfl, ⟨rfl, ⟨rfl, ⟨rfl, trivial⟩⟩⟩⟩ (hIc n1 _ _ _ _ (Or.inl (⟨rfl, _, _, _, rfl, rfl, h⟩)))
        · replace h := h.2 c
          refine y_iconst 30 Y dX6_power_30 rfl ?_
          exact y_iret 31 Y dX6_power_31 rfl h
    · replace h := h.2 c
      refine y_iconst 8 Y dX6_power_8 rfl ?_
      exact y_iret 9 Y dX6_power_9 rfl h
  · intro n pc L st T hi hS hL P Y Wk hIc
    clear hE
    rcases hi with ⟨rfl, l1, l2, l4, rfl, rfl, hi⟩ | ⟨rfl, l1, l5, rfl, rfl, hi⟩ | ⟨rfl, l5, rfl, rfl, hi⟩
    · have h := h32 n l1 l2 l4 T hS (hL 1 _ rfl) (hL 2 _ rfl) (hL 4 _ rfl) hi
      clear hL hi h32 h102 h115
      refine y_iload 32 Y dX6_power_32 rfl ?_
      refine y_bipush 34 Y dX6_power_34 rfl ?_
      refine y_bipush 36 Y dX6_power_36 rfl ?_
      refine y_calls 38 Y (as := [mi l4, mi (-64), mi 64]) [] dX6_power_38 rfl rfl rfl rfl rfl h (fun r S1 hq hI hr => ?_)
      obtain ⟨v2, rfl, h⟩ := Qi_ok hq
      replace h := h hI (mokI (hr _ rfl))
      clear hq hr
      refine y_if 41 46 Y dX6_power_41 rfl rfl (fun c => ?_) (fun c => ?_)
      · replace h := h.1 c
        refine y_aload_n 46 Y dX6_power_46 rfl ?_
        refine y_sipush 47 Y dX6_power_47 rfl ?_
        refine y_iload_n 50 Y dX6_power_50 rfl ?_
        refine y_iload 51 Y dX6_power_51 rfl ?_
        refine y_if 53 62 Y dX6_power_53 rfl rfl (fun c => ?_) (fun c => ?_)
        · replace h := h.1 c
          refine y_iload 62 Y dX6_power_62 rfl ?_
          refine y_call 64 Y (as := [mi 3600, mi l2, mi l4]) [] dX6_power_64 rfl rfl rfl rfl rfl h (fun r S3 hq hI hr => ?_)
          obtain ⟨v4, rfl, h⟩ := Qi_ok hq
          replace h := h hI (mokI (hr _ rfl))
          clear hq hr
          refine y_istore 67 Y [some mt, some (mi l1), some (mi l2), none, some (mi l4), some (mi v4)] dX6_power_67 rfl rfl ?_
          refine y_iload 69 Y dX6_power_69 rfl ?_
          refine y_if 71 102 Y dX6_power_71 rfl rfl (fun c => ?_) (fun c => ?_)
          · replace h := h.1 c
            obtain ⟨n1, hn, h⟩ := h
            exact Wk 102 _ [some mt, some (mi l1), none, none, none, some (mi v4)] _ _ ⟨rfl, ⟨rfl, ⟨rfl, trivial⟩⟩⟩ (hIc n1 _ _ _ _ hn (Or.inr (Or.inl (⟨rfl, _, _, rfl, rfl, h⟩))))
          · replace h := h.2 c
            refine y_iload 74 Y dX6_power_74 rfl ?_
            refine y_if 76 102 Y dX6_power_76 rfl rfl (fun c => ?_) (fun c => ?_)
            · replace h := h.1 c
              obtain ⟨n1, hn, h⟩ := h
              exact Wk 102 _ [some mt, some (mi l1), none, none, none, some (mi v4)] _ _ ⟨rfl, ⟨rfl, ⟨rfl, trivial⟩⟩⟩ (hIc n1 _ _ _ _ hn (Or.inr (Or.inl (⟨rfl, _, _, rfl, rfl, h⟩))))
            · replace h := h.2 c
              refine y_aload_n 79 Y dX6_power_79 rfl ?_
              refine y_sipush 80 Y dX6_power_80 rfl ?_
              refine y_iconst 83 Y dX6_power_83 rfl ?_
              refine y_call 84 Y (as := [mi 3601, mi 1]) [] dX6_power_84 rfl rfl rfl rfl rfl h (fun r S5 hq hI _ => ?_)
              obtain ⟨rfl, h⟩ := Qv_ok hq
              replace h := h hI
              clear hq
              refine y_aload_n 87 Y dX6_power_87 rfl ?_
              refine y_sipush 88 Y dX6_power_88 rfl ?_
              refine y_sipush 91 Y dX6_power_91 rfl ?_
              refine y_sipush 94 Y dX6_power_94 rfl ?_
              refine y_call 97 Y (as := [mi 3600, mi 3601, mi 3600]) [] dX6_power_97 rfl rfl rfl rfl rfl h (fun r S6 hq hI hr => ?_)
              obtain ⟨v7, rfl, h⟩ := Qi_ok hq
              replace h := h hI (mokI (hr _ rfl))
              clear hq hr
              refine y_istore 100 Y [some mt, some (mi l1), some (mi l2), none, some (mi l4), some (mi v7)] dX6_power_100 rfl rfl ?_
              obtain ⟨n1, hn, h⟩ := h
              exact Wk 102 _ [some mt, some (mi l1), none, none, none, some (mi v7)] _ _ ⟨rfl, ⟨rfl, ⟨rfl, trivial⟩⟩⟩ (hIc n1 _ _ _ _ hn (Or.inr (Or.inl (⟨rfl, _, _, rfl, rfl, h⟩))))
        · replace h := h.2 c
          refine y_iload 56 Y dX6_power_56 rfl ?_
          obtain ⟨o8, h⟩ := h
          refine y_ineg 58 Y dX6_power_58 o8 ?_
          refine y_goto 59 64 Y dX6_power_59 rfl rfl ?_
          refine y_call 64 Y (as := [mi 3600, mi l2, mi (-l4)]) [] dX6_power_64 rfl rfl rfl rfl rfl h (fun r S9 hq hI hr => ?_)
          obtain ⟨v10, rfl, h⟩ := Qi_ok hq
          replace h := h hI (mokI (hr _ rfl))
          clear hq hr
          refine y_istore 67 Y [some mt, some (mi l1), some (mi l2), none, some (mi l4), some (mi v10)] dX6_power_67 rfl rfl ?_
          refine y_iload 69 Y dX6_power_69 rfl ?_
          refine y_if 71 102 Y dX6_power_71 rfl rfl (fun c => ?_) (fun c => ?_)
          · replace h := h.1 c
            obtain ⟨n1, hn, h⟩ := h
            exact Wk 102 _ [some mt, some (mi l1), none, none, none, some (mi v10)] _ _ ⟨rfl, ⟨rfl, ⟨rfl, trivial⟩⟩⟩ (hIc n1 _ _ _ _ hn (Or.inr (Or.inl (⟨rfl, _, _, rfl, rfl, h⟩))))
          · replace h := h.2 c
            refine y_iload 74 Y dX6_power_74 rfl ?_
            refine y_if 76 102 Y dX6_power_76 rfl rfl (fun c => ?_) (fun c => ?_)
            · replace h := h.1 c
              obtain ⟨n1, hn, h⟩ := h
              exact Wk 102 _ [some mt, some (mi l1), none, none, none, some (mi v10)] _ _ ⟨rfl, ⟨rfl, ⟨rfl, trivial⟩⟩⟩ (hIc n1 _ _ _ _ hn (Or.inr (Or.inl (⟨rfl, _, _, rfl, rfl, h⟩))))
            · replace h := h.2 c
              refine y_aload_n 79 Y dX6_power_79 rfl ?_
              refine y_sipush 80 Y dX6_power_80 rfl ?_
              refine y_iconst 83 Y dX6_power_83 rfl ?_
              refine y_call 84 Y (as := [mi 3601, mi 1]) [] dX6_power_84 rfl rfl rfl rfl rfl h (fun r S11 hq hI _ => ?_)
              obtain ⟨rfl, h⟩ := Qv_ok hq
              replace h := h hI
              clear hq
              refine y_aload_n 87 Y dX6_power_87 rfl ?_
              refine y_sipush 88 Y dX6_power_88 rfl ?_
              refine y_sipush 91 Y dX6_power_91 rfl ?_
              refine y_sipush 94 Y dX6_power_94 rfl ?_
              refine y_call 97 Y (as := [mi 3600, mi 3601, mi 3600]) [] dX6_power_97 rfl rfl rfl rfl rfl h (fun r S12 hq hI hr => ?_)
              obtain ⟨v13, rfl, h⟩ := Qi_ok hq
              replace h := h hI (mokI (hr _ rfl))
              clear hq hr
              refine y_istore 100 Y [some mt, some (mi l1), some (mi l2), none, some (mi l4), some (mi v13)] dX6_power_100 rfl rfl ?_
              obtain ⟨n1, hn, h⟩ := h
              exact Wk 102 _ [some mt, some (mi l1), none, none, none, some (mi v13)] _ _ ⟨rfl, ⟨rfl, ⟨rfl, trivial⟩⟩⟩ (hIc n1 _ _ _ _ hn (Or.inr (Or.inl (⟨rfl, _, _, rfl, rfl, h⟩))))
      · replace h := h.2 c
        refine y_iconst 44 Y dX6_power_44 rfl ?_
        exact y_iret 45 Y dX6_power_45 rfl h
    · have h := h102 n l1 l5 T hS (hL 1 _ rfl) (hL 5 _ rfl) hi
      clear hL hi h32 h102 h115
      refine y_iload 102 Y dX6_power_102 rfl ?_
      refine y_if 104 115 Y dX6_power_104 rfl rfl (fun c => ?_) (fun c => ?_)
      · replace h := h.1 c
        obtain ⟨n1, hn, h⟩ := h
        exact Wk 115 _ [some mt, none, none, none, none, some (mi l5)] _ _ ⟨rfl, ⟨rfl, trivial⟩⟩ (hIc n1 _ _ _ _ hn (Or.inr (Or.inr ((⟨rfl, _, rfl, rfl, h⟩)))))
      · replace h := h.2 c
        refine y_aload_n 107 Y dX6_power_107 rfl ?_
        refine y_iload_n 108 Y dX6_power_108 rfl ?_
        refine y_sipush 109 Y dX6_power_109 rfl ?_
        refine y_call 112 Y (as := [mi l1, mi 3600]) [] dX6_power_112 rfl rfl rfl rfl rfl h (fun r S1 hq hI _ => ?_)
        obtain ⟨rfl, h⟩ := Qv_ok hq
        replace h := h hI
        clear hq
        obtain ⟨n1, hn, h⟩ := h
        exact Wk 115 _ [some mt, none, none, none, none, some (mi l5)] _ _ ⟨rfl, ⟨rfl, trivial⟩⟩ (hIc n1 _ _ _ _ hn (Or.inr (Or.inr ((⟨rfl, _, rfl, rfl, h⟩)))))
    · have h := h115 n l5 T hS (hL 5 _ rfl) hi
      clear hL hi h32 h102 h115
      refine y_iload 115 Y dX6_power_115 rfl ?_
      refine y_if 117 124 Y dX6_power_117 rfl rfl (fun c => ?_) (fun c => ?_)
      · replace h := h.1 c
        refine y_iconst 124 Y dX6_power_124 rfl ?_
        exact y_iret 125 Y dX6_power_125 rfl h
      · replace h := h.2 c
        refine y_iconst 120 Y dX6_power_120 rfl ?_
        refine y_goto 121 125 Y dX6_power_121 rfl rfl ?_
        exact y_iret 125 Y dX6_power_125 rfl h
set_option maxHeartbeats 4000000 in
theorem of_read {g : mG} {S : mS}  {Qp : Option mV → mS → Prop}
    (hE : mI S → (((S 10 0) = 30) → CX_refused g [mt, mi 1, mi 0, mi 0] S (Qi fun v2 S1 => mI S1 → (-2147483648 ≤ v2 ∧ v2 ≤ 2147483647) → ((v2 = 0) → CX_lay g [mt, mi 13440] S1 (Qi fun v4 S3 => mI S3 → (-2147483648 ≤ v4 ∧ v4 ≤ 2147483647) → CX_shelve g [mt, mi 13440, mi v4] (mup S3 19 0 0) (Qi fun v6 S5 => mI S5 → (-2147483648 ≤ v6 ∧ v6 ≤ 2147483647) → Qp (some (mi v6)) S5))) ∧ (¬ (v2 = 0) → Qp (some (mi 0)) S1))) ∧ (¬ ((S 10 0) = 30) → CX_faultOf g [mt] S (Qi fun v8 S7 => mI S7 → (-2147483648 ≤ v8 ∧ v8 ≤ 2147483647) → ((v8 = (-1)) → CX_refused g [mt, mi 0, mi 0, mi 0] S7 (Qi fun v10 S9 => mI S9 → (-2147483648 ≤ v10 ∧ v10 ≤ 2147483647) → ((v10 = 0) → CX_lay g [mt, mi 13440] S9 (Qi fun v12 S11 => mI S11 → (-2147483648 ≤ v12 ∧ v12 ≤ 2147483647) → CX_shelve g [mt, mi 13440, mi v12] (mup S11 19 0 0) (Qi fun v14 S13 => mI S13 → (-2147483648 ≤ v14 ∧ v14 ≤ 2147483647) → Qp (some (mi v14)) S13))) ∧ (¬ (v10 = 0) → Qp (some (mi 0)) S9))) ∧ (¬ (v8 = (-1)) → CX_refused g [mt, mi 1, mi 0, mi 0] S7 (Qi fun v16 S15 => mI S15 → (-2147483648 ≤ v16 ∧ v16 ≤ 2147483647) → ((v16 = 0) → CX_lay g [mt, mi 13440] S15 (Qi fun v18 S17 => mI S17 → (-2147483648 ≤ v18 ∧ v18 ≤ 2147483647) → CX_shelve g [mt, mi 13440, mi v18] (mup S17 19 0 0) (Qi fun v20 S19 => mI S19 → (-2147483648 ≤ v20 ∧ v20 ≤ 2147483647) → Qp (some (mi v20)) S19))) ∧ (¬ (v16 = 0) → Qp (some (mi 0)) S15))))))
    : CX_read g [mt] S Qp := by
  refine cm_y ⟨by decide, rfl⟩ (by simp [mcat]) (by simp) (fun _ _ _ _ _ => False) ?_ ?_
  · intro ha hS P Y Wk hIc
    have h := hE hS
    clear hE ha
    refine y_aload_n 0 Y dX6_read_0 rfl ?_
    refine y_aload_n 1 Y dX6_read_1 rfl ?_
    refine y_getf 2 Y 10 dX6_read_2 rfl rfl (fun _ => ?_)
    refine y_bipush 5 Y dX6_read_5 rfl ?_
    refine y_icmp 7 18 Y dX6_read_7 rfl rfl (fun c => ?_) (fun c => ?_)
    · replace h := h.1 c
      refine y_iconst 18 Y dX6_read_18 rfl ?_
      refine y_goto 19 23 Y dX6_read_19 rfl rfl ?_
      refine y_iconst 23 Y dX6_read_23 rfl ?_
      refine y_iconst 24 Y dX6_read_24 rfl ?_
      refine y_call 25 Y (as := [mi 1, mi 0, mi 0]) [] dX6_read_25 rfl rfl rfl rfl rfl h (fun r S1 hq hI hr => ?_)
      obtain ⟨v2, rfl, h⟩ := Qi_ok hq
      replace h := h hI (mokI (hr _ rfl))
      clear hq hr
      refine y_if 28 33 Y dX6_read_28 rfl rfl (fun c => ?_) (fun c => ?_)
      · replace h := h.1 c
        refine y_aload_n 33 Y dX6_read_33 rfl ?_
        refine y_sipush 34 Y dX6_read_34 rfl ?_
        refine y_call 37 Y (as := [mi 13440]) [] dX6_read_37 rfl rfl rfl rfl rfl h (fun r S3 hq hI hr => ?_)
        obtain ⟨v4, rfl, h⟩ := Qi_ok hq
        replace h := h hI (mokI (hr _ rfl))
        clear hq hr
        refine y_istore_n 40 Y [some mt, some (mi v4)] dX6_read_40 rfl rfl ?_
        refine y_aload_n 41 Y dX6_read_41 rfl ?_
        refine y_iconst 42 Y dX6_read_42 rfl ?_
        refine y_putf 43 Y 19 dX6_read_43 rfl rfl (fun q => absurd q (by decide)) ?_
        refine y_aload_n 46 Y dX6_read_46 rfl ?_
        refine y_sipush 47 Y dX6_read_47 rfl ?_
        refine y_iload_n 50 Y dX6_read_50 rfl ?_
        refine y_call 51 Y (as := [mi 13440, mi v4]) [] dX6_read_51 rfl rfl rfl rfl rfl h (fun r S5 hq hI hr => ?_)
        obtain ⟨v6, rfl, h⟩ := Qi_ok hq
        replace h := h hI (mokI (hr _ rfl))
        clear hq hr
        exact y_iret 54 Y dX6_read_54 rfl h
      · replace h := h.2 c
        refine y_iconst 31 Y dX6_read_31 rfl ?_
        exact y_iret 32 Y dX6_read_32 rfl h
    · replace h := h.2 c
      refine y_aload_n 10 Y dX6_read_10 rfl ?_
      refine y_call 11 Y (as := []) [mt] dX6_read_11 rfl rfl rfl rfl rfl h (fun r S7 hq hI hr => ?_)
      obtain ⟨v8, rfl, h⟩ := Qi_ok hq
      replace h := h hI (mokI (hr _ rfl))
      clear hq hr
      refine y_iconst 14 Y dX6_read_14 rfl ?_
      refine y_icmp 15 22 Y dX6_read_15 rfl rfl (fun c => ?_) (fun c => ?_)
      · replace h := h.1 c
        refine y_iconst 22 Y dX6_read_22 rfl ?_
        refine y_iconst 23 Y dX6_read_23 rfl ?_
        refine y_iconst 24 Y dX6_read_24 rfl ?_
        refine y_call 25 Y (as := [mi 0, mi 0, mi 0]) [] dX6_read_25 rfl rfl rfl rfl rfl h (fun r S9 hq hI hr => ?_)
        obtain ⟨v10, rfl, h⟩ := Qi_ok hq
        replace h := h hI (mokI (hr _ rfl))
        clear hq hr
        refine y_if 28 33 Y dX6_read_28 rfl rfl (fun c => ?_) (fun c => ?_)
        · replace h := h.1 c
          refine y_aload_n 33 Y dX6_read_33 rfl ?_
          refine y_sipush 34 Y dX6_read_34 rfl ?_
          refine y_call 37 Y (as := [mi 13440]) [] dX6_read_37 rfl rfl rfl rfl rfl h (fun r S11 hq hI hr => ?_)
          obtain ⟨v12, rfl, h⟩ := Qi_ok hq
          replace h := h hI (mokI (hr _ rfl))
          clear hq hr
          refine y_istore_n 40 Y [some mt, some (mi v12)] dX6_read_40 rfl rfl ?_
          refine y_aload_n 41 Y dX6_read_41 rfl ?_
          refine y_iconst 42 Y dX6_read_42 rfl ?_
          refine y_putf 43 Y 19 dX6_read_43 rfl rfl (fun q => absurd q (by decide)) ?_
          refine y_aload_n 46 Y dX6_read_46 rfl ?_
          refine y_sipush 47 Y dX6_read_47 rfl ?_
          refine y_iload_n 50 Y dX6_read_50 rfl ?_
          refine y_call 51 Y (as := [mi 13440, mi v12]) [] dX6_read_51 rfl rfl rfl rfl rfl h (fun r S13 hq hI hr => ?_)
          obtain ⟨v14, rfl, h⟩ := Qi_ok hq
          replace h := h hI (mokI (hr _ rfl))
          clear hq hr
          exact y_iret 54 Y dX6_read_54 rfl h
        · replace h := h.2 c
          refine y_iconst 31 Y dX6_read_31 rfl ?_
          exact y_iret 32 Y dX6_read_32 rfl h
      · replace h := h.2 c
        refine y_iconst 18 Y dX6_read_18 rfl ?_
        refine y_goto 19 23 Y dX6_read_19 rfl rfl ?_
        refine y_iconst 23 Y dX6_read_23 rfl ?_
        refine y_iconst 24 Y dX6_read_24 rfl ?_
        refine y_call 25 Y (as := [mi 1, mi 0, mi 0]) [] dX6_read_25 rfl rfl rfl rfl rfl h (fun r S15 hq hI hr => ?_)
        obtain ⟨v16, rfl, h⟩ := Qi_ok hq
        replace h := h hI (mokI (hr _ rfl))
        clear hq hr
        refine y_if 28 33 Y dX6_read_28 rfl rfl (fun c => ?_) (fun c => ?_)
        · replace h := h.1 c
          refine y_aload_n 33 Y dX6_read_33 rfl ?_
          refine y_sipush 34 Y dX6_read_34 rfl ?_
          refine y_call 37 Y (as := [mi 13440]) [] dX6_read_37 rfl rfl rfl rfl rfl h (fun r S17 hq hI hr => ?_)
          obtain ⟨v18, rfl, h⟩ := Qi_ok hq
          replace h := h hI (mokI (hr _ rfl))
          clear hq hr
          refine y_istore_n 40 Y [some mt, some (mi v18)] dX6_read_40 rfl rfl ?_
          refine y_aload_n 41 Y dX6_read_41 rfl ?_
          refine y_iconst 42 Y dX6_read_42 rfl ?_
          refine y_putf 43 Y 19 dX6_read_43 rfl rfl (fun q => absurd q (by decide)) ?_
          refine y_aload_n 46 Y dX6_read_46 rfl ?_
          refine y_sipush 47 Y dX6_read_47 rfl ?_
          refine y_iload_n 50 Y dX6_read_50 rfl ?_
          refine y_call 51 Y (as := [mi 13440, mi v18]) [] dX6_read_51 rfl rfl rfl rfl rfl h (fun r S19 hq hI hr => ?_)
          obtain ⟨v20, rfl, h⟩ := Qi_ok hq
          replace h := h hI (mokI (hr _ rfl))
          clear hq hr
          exact y_iret 54 Y dX6_read_54 rfl h
        · replace h := h.2 c
          refine y_iconst 31 Y dX6_read_31 rfl ?_
          exact y_iret 32 Y dX6_read_32 rfl h
  · intro n pc L st T hi
    exact hi.elim
set_option maxHeartbeats 4000000 in
theorem of_simplify {g : mG} {S : mS} {a1 : Int} {Qp : Option mV → mS → Prop} (I55 : Nat → Int → Int → mS → Prop)
    (hE : mI S → (-2147483648 ≤ a1 ∧ a1 ≤ 2147483647) → CX_isTree g [mt, mi a1] S (Qi fun v2 S1 => mI S1 → (-2147483648 ≤ v2 ∧ v2 ≤ 2147483647) → ((v2 ≠ 0) → (((S1 10 0) ≠ 30) → CX_refused g [mt, mi 0, mi 0, mi 0] S1 (Qi fun v4 S3 => mI S3 → (-2147483648 ≤ v4 ∧ v4 ≤ 2147483647) → ((v4 = 0) → CX_shelf g [mi a1] S3 (Qi fun v6 S5 => mI S5 → (-2147483648 ≤ v6 ∧ v6 ≤ 2147483647) → CX_takeWork g [mt, mi v6] S5 (Qv fun S7 => mI S7 → CX_stepWork g [mt] (mup S7 67 0 0) (Qi fun v9 S8 => mI S8 → (-2147483648 ≤ v9 ∧ v9 ≤ 2147483647) → (∃ n1, I55 n1 a1 v9 S8))))) ∧ (¬ (v4 = 0) → Qp (some (mi 0)) S3))) ∧ (¬ ((S1 10 0) ≠ 30) → CX_refused g [mt, mi 0, mi 1, mi 0] S1 (Qi fun v11 S10 => mI S10 → (-2147483648 ≤ v11 ∧ v11 ≤ 2147483647) → ((v11 = 0) → CX_shelf g [mi a1] S10 (Qi fun v13 S12 => mI S12 → (-2147483648 ≤ v13 ∧ v13 ≤ 2147483647) → CX_takeWork g [mt, mi v13] S12 (Qv fun S14 => mI S14 → CX_stepWork g [mt] (mup S14 67 0 0) (Qi fun v16 S15 => mI S15 → (-2147483648 ≤ v16 ∧ v16 ≤ 2147483647) → (∃ n1, I55 n1 a1 v16 S15))))) ∧ (¬ (v11 = 0) → Qp (some (mi 0)) S10)))) ∧ (¬ (v2 ≠ 0) → (((S1 10 0) ≠ 30) → CX_refused g [mt, mi 1, mi 0, mi 0] S1 (Qi fun v18 S17 => mI S17 → (-2147483648 ≤ v18 ∧ v18 ≤ 2147483647) → ((v18 = 0) → CX_shelf g [mi a1] S17 (Qi fun v20 S19 => mI S19 → (-2147483648 ≤ v20 ∧ v20 ≤ 2147483647) → CX_takeWork g [mt, mi v20] S19 (Qv fun S21 => mI S21 → CX_stepWork g [mt] (mup S21 67 0 0) (Qi fun v23 S22 => mI S22 → (-2147483648 ≤ v23 ∧ v23 ≤ 2147483647) → (∃ n1, I55 n1 a1 v23 S22))))) ∧ (¬ (v18 = 0) → Qp (some (mi 0)) S17))) ∧ (¬ ((S1 10 0) ≠ 30) → CX_refused g [mt, mi 1, mi 1, mi 0] S1 (Qi fun v25 S24 => mI S24 → (-2147483648 ≤ v25 ∧ v25 ≤ 2147483647) → ((v25 = 0) → CX_shelf g [mi a1] S24 (Qi fun v27 S26 => mI S26 → (-2147483648 ≤ v27 ∧ v27 ≤ 2147483647) → CX_takeWork g [mt, mi v27] S26 (Qv fun S28 => mI S28 → CX_stepWork g [mt] (mup S28 67 0 0) (Qi fun v30 S29 => mI S29 → (-2147483648 ≤ v30 ∧ v30 ≤ 2147483647) → (∃ n1, I55 n1 a1 v30 S29))))) ∧ (¬ (v25 = 0) → Qp (some (mi 0)) S24))))))
    (h55 : ∀ (n : Nat) (l1 l2 : Int) (T : mS), mI T → (-2147483648 ≤ l1 ∧ l1 ≤ 2147483647) → (-2147483648 ≤ l2 ∧ l2 ≤ 2147483647) → I55 n l1 l2 T → ((l2 = 0) → (((T 67 0) ≤ 0) → Qp (some (mi l1)) T) ∧ (¬ ((T 67 0) ≤ 0) → CX_shelve g [mt, mi 13540, mi (T 64 0)] T (Qi fun v2 S1 => mI S1 → (-2147483648 ≤ v2 ∧ v2 ≤ 2147483647) → Qp (some (mi v2)) S1))) ∧ (¬ (l2 = 0) → CX_stepWork g [mt] T (Qi fun v4 S3 => mI S3 → (-2147483648 ≤ v4 ∧ v4 ≤ 2147483647) → (∃ n1, n1 < n ∧ I55 n1 l1 v4 S3))))
    : CX_simplify g [mt, mi a1] S Qp := by
  refine cm_y ⟨by decide, rfl⟩ (by simp [mcat]) (by simp) (fun n pc L st S => (pc = 55 ∧ ∃ (l1 : Int) (l2 : Int), L = [some mt, some (mi l1), some (mi l2)] ∧ st = [] ∧ I55 n l1 l2 S)) ?_ ?_
  · intro ha hS P Y Wk hIc
    have h := hE hS (mokI (ha (mi a1) (by simp)))
    clear hE ha h55
    refine y_aload_n 0 Y dX6_simplify_0 rfl ?_
    refine y_aload_n 1 Y dX6_simplify_1 rfl ?_
    refine y_iload_n 2 Y dX6_simplify_2 rfl ?_
    refine y_call 3 Y (as := [mi a1]) [mt] dX6_simplify_3 rfl rfl rfl rfl rfl h (fun r S1 hq hI hr => ?_)
    obtain ⟨v2, rfl, h⟩ := Qi_ok hq
    replace h := h hI (mokI (hr _ rfl))
    clear hq hr
    refine y_if 6 13 Y dX6_simplify_6 rfl rfl (fun c => ?_) (fun c => ?_)
    · replace h := h.1 c
      refine y_iconst 13 Y dX6_simplify_13 rfl ?_
      refine y_aload_n 14 Y dX6_simplify_14 rfl ?_
      refine y_getf 15 Y 10 dX6_simplify_15 rfl rfl (fun _ => ?_)
      refine y_bipush 18 Y dX6_simplify_18 rfl ?_
      refine y_icmp 20 27 Y dX6_simplify_20 rfl rfl (fun c => ?_) (fun c => ?_)
      · replace h := h.1 c
        refine y_iconst 27 Y dX6_simplify_27 rfl ?_
        refine y_iconst 28 Y dX6_simplify_28 rfl ?_
        refine y_call 29 Y (as := [mi 0, mi 0, mi 0]) [] dX6_simplify_29 rfl rfl rfl rfl rfl h (fun r S3 hq hI hr => ?_)
        obtain ⟨v4, rfl, h⟩ := Qi_ok hq
        replace h := h hI (mokI (hr _ rfl))
        clear hq hr
        refine y_if 32 37 Y dX6_simplify_32 rfl rfl (fun c => ?_) (fun c => ?_)
        · replace h := h.1 c
          refine y_aload_n 37 Y dX6_simplify_37 rfl ?_
          refine y_iload_n 38 Y dX6_simplify_38 rfl ?_
          refine y_calls 39 Y (as := [mi a1]) [mt] dX6_simplify_39 rfl rfl rfl rfl rfl h (fun r S5 hq hI hr => ?_)
          obtain ⟨v6, rfl, h⟩ := Qi_ok hq
          replace h := h hI (mokI (hr _ rfl))
          clear hq hr
          refine y_call 42 Y (as := [mi v6]) [] dX6_simplify_42 rfl rfl rfl rfl rfl h (fun r S7 hq hI _ => ?_)
          obtain ⟨rfl, h⟩ := Qv_ok hq
          replace h := h hI
          clear hq
          refine y_aload_n 45 Y dX6_simplify_45 rfl ?_
          refine y_iconst 46 Y dX6_simplify_46 rfl ?_
          refine y_putf 47 Y 67 dX6_simplify_47 rfl rfl (fun q => absurd q (by decide)) ?_
          refine y_aload_n 50 Y dX6_simplify_50 rfl ?_
          refine y_call 51 Y (as := []) [] dX6_simplify_51 rfl rfl rfl rfl rfl h (fun r S8 hq hI hr => ?_)
          obtain ⟨v9, rfl, h⟩ := Qi_ok hq
          replace h := h hI (mokI (hr _ rfl))
          clear hq hr
          refine y_istore_n 54 Y [some mt, some (mi a1), some (mi v9)] dX6_simplify_54 rfl rfl ?_
          obtain ⟨n1, h⟩ := h
          exact Wk 55 _ [some mt, some (mi a1), some (mi v9)] _ _ ⟨rfl, ⟨rfl, ⟨rfl, trivial⟩⟩⟩ (hIc n1 _ _ _ _ ((⟨rfl, _, _, rfl, rfl, h⟩)))
        · replace h := h.2 c
          refine y_iconst 35 Y dX6_simplify_35 rfl ?_
          exact y_iret 36 Y dX6_simplify_36 rfl h
      · replace h := h.2 c
        refine y_iconst 23 Y dX6_simplify_23 rfl ?_
        refine y_goto 24 28 Y dX6_simplify_24 rfl rfl ?_
        refine y_iconst 28 Y dX6_simplify_28 rfl ?_
        refine y_call 29 Y (as := [mi 0, mi 1, mi 0]) [] dX6_simplify_29 rfl rfl rfl rfl rfl h (fun r S10 hq hI hr => ?_)
        obtain ⟨v11, rfl, h⟩ := Qi_ok hq
        replace h := h hI (mokI (hr _ rfl))
        clear hq hr
        refine y_if 32 37 Y dX6_simplify_32 rfl rfl (fun c => ?_) (fun c => ?_)
        · replace h := h.1 c
          refine y_aload_n 37 Y dX6_simplify_37 rfl ?_
          refine y_iload_n 38 Y dX6_simplify_38 rfl ?_
          refine y_calls 39 Y (as := [mi a1]) [mt] dX6_simplify_39 rfl rfl rfl rfl rfl h (fun r S12 hq hI hr => ?_)
          obtain ⟨v13, rfl, h⟩ := Qi_ok hq
          replace h := h hI (mokI (hr _ rfl))
          clear hq hr
          refine y_call 42 Y (as := [mi v13]) [] dX6_simplify_42 rfl rfl rfl rfl rfl h (fun r S14 hq hI _ => ?_)
          obtain ⟨rfl, h⟩ := Qv_ok hq
          replace h := h hI
          clear hq
          refine y_aload_n 45 Y dX6_simplify_45 rfl ?_
          refine y_iconst 46 Y dX6_simplify_46 rfl ?_
          refine y_putf 47 Y 67 dX6_simplify_47 rfl rfl (fun q => absurd q (by decide)) ?_
          refine y_aload_n 50 Y dX6_simplify_50 rfl ?_
          refine y_call 51 Y (as := []) [] dX6_simplify_51 rfl rfl rfl rfl rfl h (fun r S15 hq hI hr => ?_)
          obtain ⟨v16, rfl, h⟩ := Qi_ok hq
          replace h := h hI (mokI (hr _ rfl))
          clear hq hr
          refine y_istore_n 54 Y [some mt, some (mi a1), some (mi v16)] dX6_simplify_54 rfl rfl ?_
          obtain ⟨n1, h⟩ := h
          exact Wk 55 _ [some mt, some (mi a1), some (mi v16)] _ _ ⟨rfl, ⟨rfl, ⟨rfl, trivial⟩⟩⟩ (hIc n1 _ _ _ _ ((⟨rfl, _, _, rfl, rfl, h⟩)))
        · replace h := h.2 c
          refine y_iconst 35 Y dX6_simplify_35 rfl ?_
          exact y_iret 36 Y dX6_simplify_36 rfl h
    · replace h := h.2 c
      refine y_iconst 9 Y dX6_simplify_9 rfl ?_
      refine y_goto 10 14 Y dX6_simplify_10 rfl rfl ?_
      refine y_aload_n 14 Y dX6_simplify_14 rfl ?_
      refine y_getf 15 Y 10 dX6_simplify_15 rfl rfl (fun _ => ?_)
      refine y_bipush 18 Y dX6_simplify_18 rfl ?_
      refine y_icmp 20 27 Y dX6_simplify_20 rfl rfl (fun c => ?_) (fun c => ?_)
      · replace h := h.1 c
        refine y_iconst 27 Y dX6_simplify_27 rfl ?_
        refine y_iconst 28 Y dX6_simplify_28 rfl ?_
        refine y_call 29 Y (as := [mi 1, mi 0, mi 0]) [] dX6_simplify_29 rfl rfl rfl rfl rfl h (fun r S17 hq hI hr => ?_)
        obtain ⟨v18, rfl, h⟩ := Qi_ok hq
        replace h := h hI (mokI (hr _ rfl))
        clear hq hr
        refine y_if 32 37 Y dX6_simplify_32 rfl rfl (fun c => ?_) (fun c => ?_)
        · replace h := h.1 c
          refine y_aload_n 37 Y dX6_simplify_37 rfl ?_
          refine y_iload_n 38 Y dX6_simplify_38 rfl ?_
          refine y_calls 39 Y (as := [mi a1]) [mt] dX6_simplify_39 rfl rfl rfl rfl rfl h (fun r S19 hq hI hr => ?_)
          obtain ⟨v20, rfl, h⟩ := Qi_ok hq
          replace h := h hI (mokI (hr _ rfl))
          clear hq hr
          refine y_call 42 Y (as := [mi v20]) [] dX6_simplify_42 rfl rfl rfl rfl rfl h (fun r S21 hq hI _ => ?_)
          obtain ⟨rfl, h⟩ := Qv_ok hq
          replace h := h hI
          clear hq
          refine y_aload_n 45 Y dX6_simplify_45 rfl ?_
          refine y_iconst 46 Y dX6_simplify_46 rfl ?_
          refine y_putf 47 Y 67 dX6_simplify_47 rfl rfl (fun q => absurd q (by decide)) ?_
          refine y_aload_n 50 Y dX6_simplify_50 rfl ?_
          refine y_call 51 Y (as := []) [] dX6_simplify_51 rfl rfl rfl rfl rfl h (fun r S22 hq hI hr => ?_)
          obtain ⟨v23, rfl, h⟩ := Qi_ok hq
          replace h := h hI (mokI (hr _ rfl))
          clear hq hr
          refine y_istore_n 54 Y [some mt, some (mi a1), some (mi v23)] dX6_simplify_54 rfl rfl ?_
          obtain ⟨n1, h⟩ := h
          exact Wk 55 _ [some mt, some (mi a1), some (mi v23)] _ _ ⟨rfl, ⟨rfl, ⟨rfl, trivial⟩⟩⟩ (hIc n1 _ _ _ _ ((⟨rfl, _, _, rfl, rfl, h⟩)))
        · replace h := h.2 c
          refine y_iconst 35 Y dX6_simplify_35 rfl ?_
          exact y_iret 36 Y dX6_simplify_36 rfl h
      · replace h := h.2 c
        refine y_iconst 23 Y dX6_simplify_23 rfl ?_
        refine y_goto 24 28 Y dX6_simplify_24 rfl rfl ?_
        refine y_iconst 28 Y dX6_simplify_28 rfl ?_
        refine y_call 29 Y (as := [mi 1, mi 1, mi 0]) [] dX6_simplify_29 rfl rfl rfl rfl rfl h (fun r S24 hq hI hr => ?_)
        obtain ⟨v25, rfl, h⟩ := Qi_ok hq
        replace h := h hI (mokI (hr _ rfl))
        clear hq hr
        refine y_if 32 37 Y dX6_simplify_32 rfl rfl (fun c => ?_) (fun c => ?_)
        · replace h := h.1 c
          refine y_aload_n 37 Y dX6_simplify_37 rfl ?_
          refine y_iload_n 38 Y dX6_simplify_38 rfl ?_
          refine y_calls 39 Y (as := [mi a1]) [mt] dX6_simplify_39 rfl rfl rfl rfl rfl h (fun r S26 hq hI hr => ?_)
          obtain ⟨v27, rfl, h⟩ := Qi_ok hq
          replace h := h hI (mokI (hr _ rfl))
          clear hq hr
          refine y_call 42 Y (as := [mi v27]) [] dX6_simplify_42 rfl rfl rfl rfl rfl h (fun r S28 hq hI _ => ?_)
          obtain ⟨rfl, h⟩ := Qv_ok hq
          replace h := h hI
          clear hq
          refine y_aload_n 45 Y dX6_simplify_45 rfl ?_
          refine y_iconst 46 Y dX6_simplify_46 rfl ?_
          refine y_putf 47 Y 67 dX6_simplify_47 rfl rfl (fun q => absurd q (by decide)) ?_
          refine y_aload_n 50 Y dX6_simplify_50 rfl ?_
          refine y_call 51 Y (as := []) [] dX6_simplify_51 rfl rfl rfl rfl rfl h (fun r S29 hq hI hr => ?_)
          obtain ⟨v30, rfl, h⟩ := Qi_ok hq
          replace h := h hI (mokI (hr _ rfl))
          clear hq hr
          refine y_istore_n 54 Y [some mt, some (mi a1), some (mi v30)] dX6_simplify_54 rfl rfl ?_
          obtain ⟨n1, h⟩ := h
          exact Wk 55 _ [some mt, some (mi a1), some (mi v30)] _ _ ⟨rfl, ⟨rfl, ⟨rfl, trivial⟩⟩⟩ (hIc n1 _ _ _ _ ((⟨rfl, _, _, rfl, rfl, h⟩)))
        · replace h := h.2 c
          refine y_iconst 35 Y dX6_simplify_35 rfl ?_
          exact y_iret 36 Y dX6_simplify_36 rfl h
  · intro n pc L st T hi hS hL P Y Wk hIc
    clear hE
    rcases hi with ⟨rfl, l1, l2, rfl, rfl, hi⟩
    · have h := h55 n l1 l2 T hS (hL 1 _ rfl) (hL 2 _ rfl) hi
      clear hL hi h55
      refine y_iload_n 55 Y dX6_simplify_55 rfl ?_
      refine y_if 56 67 Y dX6_simplify_56 rfl rfl (fun c => ?_) (fun c => ?_)
      · replace h := h.1 c
        refine y_aload_n 67 Y dX6_simplify_67 rfl ?_
        refine y_getf 68 Y 67 dX6_simplify_68 rfl rfl (fun _ => ?_)
        refine y_if 71 88 Y dX6_simplify_71 rfl rfl (fun c => ?_) (fun c => ?_)
        · replace h := h.1 c
          refine y_iload_n 88 Y dX6_simplify_88 rfl ?_
          exact y_iret 89 Y dX6_simplify_89 rfl h
        · replace h := h.2 c
          refine y_aload_n 74 Y dX6_simplify_74 rfl ?_
          refine y_sipush 75 Y dX6_simplify_75 rfl ?_
          refine y_aload_n 78 Y dX6_simplify_78 rfl ?_
          refine y_getf 79 Y 64 dX6_simplify_79 rfl rfl (fun _ => ?_)
          refine y_call 82 Y (as := [mi 13540, mi (T 64 0)]) [] dX6_simplify_82 rfl rfl rfl rfl rfl h (fun r S1 hq hI hr => ?_)
          obtain ⟨v2, rfl, h⟩ := Qi_ok hq
          replace h := h hI (mokI (hr _ rfl))
          clear hq hr
          refine y_goto 85 89 Y dX6_simplify_85 rfl rfl ?_
          exact y_iret 89 Y dX6_simplify_89 rfl h
      · replace h := h.2 c
        refine y_aload_n 59 Y dX6_simplify_59 rfl ?_
        refine y_call 60 Y (as := []) [] dX6_simplify_60 rfl rfl rfl rfl rfl h (fun r S3 hq hI hr => ?_)
        obtain ⟨v4, rfl, h⟩ := Qi_ok hq
        replace h := h hI (mokI (hr _ rfl))
        clear hq hr
        refine y_istore_n 63 Y [some mt, some (mi l1), some (mi v4)] dX6_simplify_63 rfl rfl ?_
        refine y_goto 64 55 Y dX6_simplify_64 rfl rfl ?_
        obtain ⟨n1, hn, h⟩ := h
        exact Wk 55 _ [some mt, some (mi l1), some (mi v4)] _ _ ⟨rfl, ⟨rfl, ⟨rfl, trivial⟩⟩⟩ (hIc n1 _ _ _ _ hn ((⟨rfl, _, _, rfl, rfl, h⟩)))

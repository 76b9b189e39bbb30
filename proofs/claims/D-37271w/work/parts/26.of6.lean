/-! Contracts out of conditions; printed by gen_vc.py. -/
set_option maxRecDepth 100000
set_option maxHeartbeats 4000000 in
theorem of_outPostfix {g : mG} {S : mS} {a1 : Int} {Qp : Option mV → mS → Prop} (I13 : Nat → Int → Int → mS → Prop)
    (hE : mI S → (-2147483648 ≤ a1 ∧ a1 ≤ 2147483647) → CX_inOrder g [mt, mi a1] (mup S 42 0 0) (Qi fun v2 S1 => mI S1 → (-2147483648 ≤ v2 ∧ v2 ≤ 2147483647) → (∃ n1, I13 n1 v2 0 S1)))
    (h13 : ∀ (n : Nat) (l2 l3 : Int) (T : mS), mI T → (-2147483648 ≤ l2 ∧ l2 ≤ 2147483647) → (-2147483648 ≤ l3 ∧ l3 ≤ 2147483647) → I13 n l2 l3 T → ((l2 ≤ l3) → Qp none T) ∧ (¬ (l2 ≤ l3) → (0 ≤ l3) ∧ (l3 < 100) ∧ ((l3 ≤ 0) → (0 ≤ (T 14 l3)) ∧ ((T 14 l3) < 20300) ∧ (((T 4 (T 14 l3)) ≠ 0) → CX_prints g [mt, mi (T 5 (T 14 l3))] T (Qv fun S5 => mI S5 → (((S5 4 (T 14 l3)) ≠ 2) → (((S5 4 (T 14 l3)) ≠ 3) → (-2147483648 ≤ ((l3 + 1) : Int) ∧ (l3 + 1) ≤ 2147483647) ∧ (∃ n1, n1 < n ∧ I13 n1 l2 (l3 + 1) S5)) ∧ (¬ ((S5 4 (T 14 l3)) ≠ 3) → (((S5 6 (T 14 l3)) ≠ 0) → (-2147483648 ≤ ((l3 + 1) : Int) ∧ (l3 + 1) ≤ 2147483647) ∧ (∃ n1, n1 < n ∧ I13 n1 l2 (l3 + 1) S5)) ∧ (¬ ((S5 6 (T 14 l3)) ≠ 0) → CX_prints g [mt, mi 39] S5 (Qv fun S8 => mI S8 → (-2147483648 ≤ ((l3 + 1) : Int) ∧ (l3 + 1) ≤ 2147483647) ∧ (∃ n1, n1 < n ∧ I13 n1 l2 (l3 + 1) S8))))) ∧ (¬ ((S5 4 (T 14 l3)) ≠ 2) → (-2147483648 ≤ ((48 + (S5 7 (T 14 l3))) : Int) ∧ (48 + (S5 7 (T 14 l3))) ≤ 2147483647) ∧ CX_prints g [mt, mi (48 + (S5 7 (T 14 l3)))] S5 (Qv fun S11 => mI S11 → (-2147483648 ≤ ((l3 + 1) : Int) ∧ (l3 + 1) ≤ 2147483647) ∧ (∃ n1, n1 < n ∧ I13 n1 l2 (l3 + 1) S11))))) ∧ (¬ ((T 4 (T 14 l3)) ≠ 0) → CX_outNumber g [mt, mi (T 5 (T 14 l3))] T (Qv fun S13 => mI S13 → (((S13 4 (T 14 l3)) ≠ 2) → (((S13 4 (T 14 l3)) ≠ 3) → (-2147483648 ≤ ((l3 + 1) : Int) ∧ (l3 + 1) ≤ 2147483647) ∧ (∃ n1, n1 < n ∧ I13 n1 l2 (l3 + 1) S13)) ∧ (¬ ((S13 4 (T 14 l3)) ≠ 3) → (((S13 6 (T 14 l3)) ≠ 0) → (-2147483648 ≤ ((l3 + 1) : Int) ∧ (l3 + 1) ≤ 2147483647) ∧ (∃ n1, n1 < n ∧ I13 n1 l2 (l3 + 1) S13)) ∧ (¬ ((S13 6 (T 14 l3)) ≠ 0) → CX_prints g [mt, mi 39] S13 (Qv fun S16 => mI S16 → (-2147483648 ≤ ((l3 + 1) : Int) ∧ (l3 + 1) ≤ 2147483647) ∧ (∃ n1, n1 < n ∧ I13 n1 l2 (l3 + 1) S16))))) ∧ (¬ ((S13 4 (T 14 l3)) ≠ 2) → (-2147483648 ≤ ((48 + (S13 7 (T 14 l3))) : Int) ∧ (48 + (S13 7 (T 14 l3))) ≤ 2147483647) ∧ CX_prints g [mt, mi (48 + (S13 7 (T 14 l3)))] S13 (Qv fun S19 => mI S19 → (-2147483648 ≤ ((l3 + 1) : Int) ∧ (l3 + 1) ≤ 2147483647) ∧ (∃ n1, n1 < n ∧ I13 n1 l2 (l3 + 1) S19)))))) ∧ (¬ (l3 ≤ 0) → CX_prints g [mt, mi 32] T (Qv fun S21 => mI S21 → (0 ≤ (T 14 l3)) ∧ ((T 14 l3) < 20300) ∧ (((S21 4 (T 14 l3)) ≠ 0) → CX_prints g [mt, mi (S21 5 (T 14 l3))] S21 (Qv fun S24 => mI S24 → (((S24 4 (T 14 l3)) ≠ 2) → (((S24 4 (T 14 l3)) ≠ 3) → (-2147483648 ≤ ((l3 + 1) : Int) ∧ (l3 + 1) ≤ 2147483647) ∧ (∃ n1, n1 < n ∧ I13 n1 l2 (l3 + 1) S24)) ∧ (¬ ((S24 4 (T 14 l3)) ≠ 3) → (((S24 6 (T 14 l3)) ≠ 0) → (-2147483648 ≤ ((l3 + 1) : Int) ∧ (l3 + 1) ≤ 2147483647) ∧ (∃ n1, n1 < n ∧ I13 n1 l2 (l3 + 1) S24)) ∧ (¬ ((S24 6 (T 14 l3)) ≠ 0) → CX_prints g [mt, mi 39] S24 (Qv fun S27 => mI S27 → (-2147483648 ≤ ((l3 + 1) : Int) ∧ (l3 + 1) ≤ 2147483647) ∧ (∃ n1, n1 < n ∧ I13 n1 l2 (l3 + 1) S27))))) ∧ (¬ ((S24 4 (T 14 l3)) ≠ 2) → (-2147483648 ≤ ((48 + (S24 7 (T 14 l3))) : Int) ∧ (48 + (S24 7 (T 14 l3))) ≤ 2147483647) ∧ CX_prints g [mt, mi (48 + (S24 7 (T 14 l3)))] S24 (Qv fun S30 => mI S30 → (-2147483648 ≤ ((l3 + 1) : Int) ∧ (l3 + 1) ≤ 2147483647) ∧ (∃ n1, n1 < n ∧ I13 n1 l2 (l3 + 1) S30))))) ∧ (¬ ((S21 4 (T 14 l3)) ≠ 0) → CX_outNumber g [mt, mi (S21 5 (T 14 l3))] S21 (Qv fun S32 => mI S32 → (((S32 4 (T 14 l3)) ≠ 2) → (((S32 4 (T 14 l3)) ≠ 3) → (-2147483648 ≤ ((l3 + 1) : Int) ∧ (l3 + 1) ≤ 2147483647) ∧ (∃ n1, n1 < n ∧ I13 n1 l2 (l3 + 1) S32)) ∧ (¬ ((S32 4 (T 14 l3)) ≠ 3) → (((S32 6 (T 14 l3)) ≠ 0) → (-2147483648 ≤ ((l3 + 1) : Int) ∧ (l3 + 1) ≤ 2147483647) ∧ (∃ n1, n1 < n ∧ I13 n1 l2 (l3 + 1) S32)) ∧ (¬ ((S32 6 (T 14 l3)) ≠ 0) → CX_prints g [mt, mi 39] S32 (Qv fun S35 => mI S35 → (-2147483648 ≤ ((l3 + 1) : Int) ∧ (l3 + 1) ≤ 2147483647) ∧ (∃ n1, n1 < n ∧ I13 n1 l2 (l3 + 1) S35))))) ∧ (¬ ((S32 4 (T 14 l3)) ≠ 2) → (-2147483648 ≤ ((48 + (S32 7 (T 14 l3))) : Int) ∧ (48 + (S32 7 (T 14 l3))) ≤ 2147483647) ∧ CX_prints g [mt, mi (48 + (S32 7 (T 14 l3)))] S32 (Qv fun S38 => mI S38 → (-2147483648 ≤ ((l3 + 1) : Int) ∧ (l3 + 1) ≤ 2147483647) ∧ (∃ n1, n1 < n ∧ I13 n1 l2 (l3 + 1) S38)))))))))
    : CX_outPostfix g [mt, mi a1] S Qp := by
  refine cm_y ⟨by decide, rfl⟩ (by simp [mcat]) (by simp) (fun n pc L st S => (pc = 13 ∧ ∃ (l2 : Int) (l3 : Int), L = [some mt, none, some (mi l2), some (mi l3), none] ∧ st = [] ∧ I13 n l2 l3 S)) ?_ ?_
  · intro ha hS P Y Wk hIc
    have h := hE hS (mokI (ha (mi a1) (by simp)))
    clear hE ha h13
    refine y_aload_n 0 Y dX6_outPostfix_0 rfl ?_
    refine y_iconst 1 Y dX6_outPostfix_1 rfl ?_
    refine y_putf 2 Y 42 dX6_outPostfix_2 rfl rfl (fun q => absurd q (by decide)) ?_
    refine y_aload_n 5 Y dX6_outPostfix_5 rfl ?_
    refine y_iload_n 6 Y dX6_outPostfix_6 rfl ?_
    refine y_call 7 Y (as := [mi a1]) [] dX6_outPostfix_7 rfl rfl rfl rfl rfl h (fun r S1 hq hI hr => ?_)
    obtain ⟨v2, rfl, h⟩ := Qi_ok hq
    replace h := h hI (mokI (hr _ rfl))
    clear hq hr
    refine y_istore_n 10 Y [some mt, some (mi a1), some (mi v2), none, none] dX6_outPostfix_10 rfl rfl ?_
    refine y_iconst 11 Y dX6_outPostfix_11 rfl ?_
    refine y_istore_n 12 Y [some mt, some (mi a1), some (mi v2), some (mi 0), none] dX6_outPostfix_12 rfl rfl ?_
    obtain ⟨n1, h⟩ := h
    exact Wk 13 _ [some mt, none, some (mi v2), some (mi 0), none] _ _ ⟨rfl, ⟨rfl, ⟨rfl, trivial⟩⟩⟩ (hIc n1 _ _ _ _ ((⟨rfl, _, _, rfl, rfl, h⟩)))
  · intro n pc L st T hi hS hL P Y Wk hIc
    clear hE
    rcases hi with ⟨rfl, l2, l3, rfl, rfl, hi⟩
    · have h := h13 n l2 l3 T hS (hL 2 _ rfl) (hL 3 _ rfl) hi
      clear hL hi h13
      refine y_iload_n 13 Y dX6_outPostfix_13 rfl ?_
      refine y_iload_n 14 Y dX6_outPostfix_14 rfl ?_
      refine y_icmp 15 132 Y dX6_outPostfix_15 rfl rfl (fun c => ?_) (fun c => ?_)
      · replace h := h.1 c
        exact y_ret 132 Y dX6_outPostfix_132 rfl h
      · replace h := h.2 c
        refine y_aload_n 18 Y dX6_outPostfix_18 rfl ?_
        refine y_geta 19 Y 14 dX6_outPostfix_19 rfl rfl ?_
        refine y_iload_n 22 Y dX6_outPostfix_22 rfl ?_
        obtain ⟨o1, h⟩ := h
        obtain ⟨o2, h⟩ := h
        refine y_iald 23 Y dX6_outPostfix_23 rfl rfl o1 o2 (fun _ => ?_)
        refine y_istore 24 Y [some mt, none, some (mi l2), some (mi l3), some (mi (T 14 l3))] dX6_outPostfix_24 rfl rfl ?_
        refine y_iload_n 26 Y dX6_outPostfix_26 rfl ?_
        refine y_if 27 36 Y dX6_outPostfix_27 rfl rfl (fun c => ?_) (fun c => ?_)
        · replace h := h.1 c
          refine y_aload_n 36 Y dX6_outPostfix_36 rfl ?_
          refine y_geta 37 Y 4 dX6_outPostfix_37 rfl rfl ?_
          refine y_iload 40 Y dX6_outPostfix_40 rfl ?_
          obtain ⟨o3, h⟩ := h
          obtain ⟨o4, h⟩ := h
          refine y_iald 42 Y dX6_outPostfix_42 rfl rfl o3 o4 (fun _ => ?_)
          refine y_if 43 60 Y dX6_outPostfix_43 rfl rfl (fun c => ?_) (fun c => ?_)
          · replace h := h.1 c
            refine y_aload_n 60 Y dX6_outPostfix_60 rfl ?_
            refine y_aload_n 61 Y dX6_outPostfix_61 rfl ?_
            refine y_geta 62 Y 5 dX6_outPostfix_62 rfl rfl ?_
            refine y_iload 65 Y dX6_outPostfix_65 rfl ?_
            refine y_iald 67 Y dX6_outPostfix_67 rfl rfl o3 o4 (fun _ => ?_)
            refine y_call 68 Y (as := [mi (T 5 (T 14 l3))]) [] dX6_outPostfix_68 rfl rfl rfl rfl rfl h (fun r S5 hq hI _ => ?_)
            obtain ⟨rfl, h⟩ := Qv_ok hq
            replace h := h hI
            clear hq
            refine y_aload_n 71 Y dX6_outPostfix_71 rfl ?_
            refine y_geta 72 Y 4 dX6_outPostfix_72 rfl rfl ?_
            refine y_iload 75 Y dX6_outPostfix_75 rfl ?_
            refine y_iald 77 Y dX6_outPostfix_77 rfl rfl o3 o4 (fun _ => ?_)
            refine y_iconst 78 Y dX6_outPostfix_78 rfl ?_
            refine y_icmp 79 99 Y dX6_outPostfix_79 rfl rfl (fun c => ?_) (fun c => ?_)
            · replace h := h.1 c
              refine y_aload_n 99 Y dX6_outPostfix_99 rfl ?_
              refine y_geta 100 Y 4 dX6_outPostfix_100 rfl rfl ?_
              refine y_iload 103 Y dX6_outPostfix_103 rfl ?_
              refine y_iald 105 Y dX6_outPostfix_105 rfl rfl o3 o4 (fun _ => ?_)
              refine y_iconst 106 Y dX6_outPostfix_106 rfl ?_
              refine y_icmp 107 126 Y dX6_outPostfix_107 rfl rfl (fun c => ?_) (fun c => ?_)
              · replace h := h.1 c
                obtain ⟨o6, h⟩ := h
                refine y_iinc 126 Y [some mt, none, some (mi l2), some (mi (l3 + 1)), some (mi (T 14 l3))] dX6_outPostfix_126 rfl rfl o6 ?_
                refine y_goto 129 13 Y dX6_outPostfix_129 rfl rfl ?_
                obtain ⟨n1, hn, h⟩ := h
                exact Wk 13 _ [some mt, none, some (mi l2), some (mi (l3 + 1)), none] _ _ ⟨rfl, ⟨rfl, ⟨rfl, trivial⟩⟩⟩ (hIc n1 _ _ _ _ hn ((⟨rfl, _, _, rfl, rfl, h⟩)))
              · replace h := h.2 c
                refine y_aload_n 110 Y dX6_outPostfix_110 rfl ?_
                refine y_geta 111 Y 6 dX6_outPostfix_111 rfl rfl ?_
                refine y_iload 114 Y dX6_outPostfix_114 rfl ?_
                refine y_iald 116 Y dX6_outPostfix_116 rfl rfl o3 o4 (fun _ => ?_)
                refine y_if 117 126 Y dX6_outPostfix_117 rfl rfl (fun c => ?_) (fun c => ?_)
                · replace h := h.1 c
                  obtain ⟨o7, h⟩ := h
                  refine y_iinc 126 Y [some mt, none, some (mi l2), some (mi (l3 + 1)), some (mi (T 14 l3))] dX6_outPostfix_126 rfl rfl o7 ?_
                  refine y_goto 129 13 Y dX6_outPostfix_129 rfl rfl ?_
                  obtain ⟨n1, hn, h⟩ := h
                  exact Wk 13 _ [some mt, none, some (mi l2), some (mi (l3 + 1)), none] _ _ ⟨rfl, ⟨rfl, ⟨rfl, trivial⟩⟩⟩ (hIc n1 _ _ _ _ hn ((⟨rfl, _, _, rfl, rfl, h⟩)))
                · replace h := h.2 c
                  refine y_aload_n 120 Y dX6_outPostfix_120 rfl ?_
                  refine y_bipush 121 Y dX6_outPostfix_121 rfl ?_
                  refine y_call 123 Y (as := [mi 39]) [] dX6_outPostfix_123 rfl rfl rfl rfl rfl h (fun r S8 hq hI _ => ?_)
                  obtain ⟨rfl, h⟩ := Qv_ok hq
                  replace h := h hI
                  clear hq
                  obtain ⟨o9, h⟩ := h
                  refine y_iinc 126 Y [some mt, none, some (mi l2), some (mi (l3 + 1)), some (mi (T 14 l3))] dX6_outPostfix_126 rfl rfl o9 ?_
                  refine y_goto 129 13 Y dX6_outPostfix_129 rfl rfl ?_
                  obtain ⟨n1, hn, h⟩ := h
                  exact Wk 13 _ [some mt, none, some (mi l2), some (mi (l3 + 1)), none] _ _ ⟨rfl, ⟨rfl, ⟨rfl, trivial⟩⟩⟩ (hIc n1 _ _ _ _ hn ((⟨rfl, _, _, rfl, rfl, h⟩)))
            · replace h := h.2 c
              refine y_aload_n 82 Y dX6_outPostfix_82 rfl ?_
              refine y_bipush 83 Y dX6_outPostfix_83 rfl ?_
              refine y_aload_n 85 Y dX6_outPostfix_85 rfl ?_
              refine y_geta 86 Y 7 dX6_outPostfix_86 rfl rfl ?_
              refine y_iload 89 Y dX6_outPostfix_89 rfl ?_
              refine y_iald 91 Y dX6_outPostfix_91 rfl rfl o3 o4 (fun _ => ?_)
              obtain ⟨o10, h⟩ := h
              refine y_iadd 92 Y dX6_outPostfix_92 o10 ?_
              refine y_call 93 Y (as := [mi (48 + (S5 7 (T 14 l3)))]) [] dX6_outPostfix_93 rfl rfl rfl rfl rfl h (fun r S11 hq hI _ => ?_)
              obtain ⟨rfl, h⟩ := Qv_ok hq
              replace h := h hI
              clear hq
              refine y_goto 96 126 Y dX6_outPostfix_96 rfl rfl ?_
              obtain ⟨o12, h⟩ := h
              refine y_iinc 126 Y [some mt, none, some (mi l2), some (mi (l3 + 1)), some (mi (T 14 l3))] dX6_outPostfix_126 rfl rfl o12 ?_
              refine y_goto 129 13 Y dX6_outPostfix_129 rfl rfl ?_
              obtain ⟨n1, hn, h⟩ := h
              exact Wk 13 _ [some mt, none, some (mi l2), some (mi (l3 + 1)), none] _ _ ⟨rfl, ⟨rfl, ⟨rfl, trivial⟩⟩⟩ (hIc n1 _ _ _ _ hn ((⟨rfl, _, _, rfl, rfl, h⟩)))
          · replace h := h.2 c
            refine y_aload_n 46 Y dX6_outPostfix_46 rfl ?_
            refine y_aload_n 47 Y dX6_outPostfix_47 rfl ?_
            refine y_geta 48 Y 5 dX6_outPostfix_48 rfl rfl ?_
            refine y_iload 51 Y dX6_outPostfix_51 rfl ?_
            refine y_iald 53 Y dX6_outPostfix_53 rfl rfl o3 o4 (fun _ => ?_)
            refine y_call 54 Y (as := [mi (T 5 (T 14 l3))]) [] dX6_outPostfix_54 rfl rfl rfl rfl rfl h (fun r S13 hq hI _ => ?_)
            obtain ⟨rfl, h⟩ := Qv_ok hq
            replace h := h hI
            clear hq
            refine y_goto 57 71 Y dX6_outPostfix_57 rfl rfl ?_
            refine y_aload_n 71 Y dX6_outPostfix_71 rfl ?_
            refine y_geta 72 Y 4 dX6_outPostfix_72 rfl rfl ?_
            refine y_iload 75 Y dX6_outPostfix_75 rfl ?_
            refine y_iald 77 Y dX6_outPostfix_77 rfl rfl o3 o4 (fun _ => ?_)
            refine y_iconst 78 Y dX6_outPostfix_78 rfl ?_
            refine y_icmp 79 99 Y dX6_outPostfix_79 rfl rfl (fun c => ?_) (fun c => ?_)
            · replace h := h.1 c
              refine y_aload_n 99 Y dX6_outPostfix_99 rfl ?_
              refine y_geta 100 Y 4 dX6_outPostfix_100 rfl rfl ?_
              refine y_iload 103 Y dX6_outPostfix_103 rfl ?_
              refine y_iald 105 Y dX6_outPostfix_105 rfl rfl o3 o4 (fun _ => ?_)
              refine y_iconst 106 Y dX6_outPostfix_106 rfl ?_
              refine y_icmp 107 126 Y dX6_outPostfix_107 rfl rfl (fun c => ?_) (fun c => ?_)
              · replace h := h.1 c
                obtain ⟨o14, h⟩ := h
                refine y_iinc 126 Y [some mt, none, some (mi l2), some (mi (l3 + 1)), some (mi (T 14 l3))] dX6_outPostfix_126 rfl rfl o14 ?_
                refine y_goto 129 13 Y dX6_outPostfix_129 rfl rfl ?_
                obtain ⟨n1, hn, h⟩ := h
                exact Wk 13 _ [some mt, none, some (mi l2), some (mi (l3 + 1)), none] _ _ ⟨rfl, ⟨rfl, ⟨rfl, trivial⟩⟩⟩ (hIc n1 _ _ _ _ hn ((⟨rfl, _, _, rfl, rfl, h⟩)))
              · replace h := h.2 c
                refine y_aload_n 110 Y dX6_outPostfix_110 rfl ?_
                refine y_geta 111 Y 6 dX6_outPostfix_111 rfl rfl ?_
                refine y_iload 114 Y dX6_outPostfix_114 rfl ?_
                refine y_iald 116 Y dX6_outPostfix_116 rfl rfl o3 o4 (fun _ => ?_)
                refine y_if 117 126 Y dX6_outPostfix_117 rfl rfl (fun c => ?_) (fun c => ?_)
                · replace h := h.1 c
                  obtain ⟨o15, h⟩ := h
                  refine y_iinc 126 Y [some mt, none, some (mi l2), some (mi (l3 + 1)), some (mi (T 14 l3))] dX6_outPostfix_126 rfl rfl o15 ?_
                  refine y_goto 129 13 Y dX6_outPostfix_129 rfl rfl ?_
                  obtain ⟨n1, hn, h⟩ := h
                  exact Wk 13 _ [some mt, none, some (mi l2), some (mi (l3 + 1)), none] _ _ ⟨rfl, ⟨rfl, ⟨rfl, trivial⟩⟩⟩ (hIc n1 _ _ _ _ hn ((⟨rfl, _, _, rfl, rfl, h⟩)))
                · replace h := h.2 c
                  refine y_aload_n 120 Y dX6_outPostfix_120 rfl ?_
                  refine y_bipush 121 Y dX6_outPostfix_121 rfl ?_
                  refine y_call 123 Y (as := [mi 39]) [] dX6_outPostfix_123 rfl rfl rfl rfl rfl h (fun r S16 hq hI _ => ?_)
                  obtain ⟨rfl, h⟩ := Qv_ok hq
                  replace h := h hI
                  clear hq
                  obtain ⟨o17, h⟩ := h
                  refine y_iinc 126 Y [some mt, none, some (mi l2), some (mi (l3 + 1)), some (mi (T 14 l3))] dX6_outPostfix_126 rfl rfl o17 ?_
                  refine y_goto 129 13 Y dX6_outPostfix_129 rfl rfl ?_
                  obtain ⟨n1, hn, h⟩ := h
                  exact Wk 13 _ [some mt, none, some (mi l2), some (mi (l3 + 1)), none] _ _ ⟨rfl, ⟨rfl, ⟨rfl, trivial⟩⟩⟩ (hIc n1 _ _ _ _ hn ((⟨rfl, _, _, rfl, rfl, h⟩)))
            · replace h := h.2 c
              refine y_aload_n 82 Y dX6_outPostfix_82 rfl ?_
              refine y_bipush 83 Y dX6_outPostfix_83 rfl ?_
              refine y_aload_n 85 Y dX6_outPostfix_85 rfl ?_
              refine y_geta 86 Y 7 dX6_outPostfix_86 rfl rfl ?_
              refine y_iload 89 Y dX6_outPostfix_89 rfl ?_
              refine y_iald 91 Y dX6_outPostfix_91 rfl rfl o3 o4 (fun _ => ?_)
              obtain ⟨o18, h⟩ := h
              refine y_iadd 92 Y dX6_outPostfix_92 o18 ?_
              refine y_call 93 Y (as := [mi (48 + (S13 7 (T 14 l3)))]) [] dX6_outPostfix_93 rfl rfl rfl rfl rfl h (fun r S19 hq hI _ => ?_)
              obtain ⟨rfl, h⟩ := Qv_ok hq
              replace h := h hI
              clear hq
              refine y_goto 96 126 Y dX6_outPostfix_96 rfl rfl ?_
              obtain ⟨o20, h⟩ := h
              refine y_iinc 126 Y [some mt, none, some (mi l2), some (mi (l3 + 1)), some (mi (T 14 l3))] dX6_outPostfix_126 rfl rfl o20 ?_
              refine y_goto 129 13 Y dX6_outPostfix_129 rfl rfl ?_
              obtain ⟨n1, hn, h⟩ := h
              exact Wk 13 _ [some mt, none, some (mi l2), some (mi (l3 + 1)), none] _ _ ⟨rfl, ⟨rfl, ⟨rfl, trivial⟩⟩⟩ (hIc n1 _ _ _ _ hn ((⟨rfl, _, _, rfl, rfl, h⟩)))
        · replace h := h.2 c
          refine y_aload_n 30 Y dX6_outPostfix_30 rfl ?_
          refine y_bipush 31 Y dX6_outPostfix_31 rfl ?_
          refine y_call 33 Y (as := [mi 32]) [] dX6_outPostfix_33 rfl rfl rfl rfl rfl h (fun r S21 hq hI _ => ?_)
          obtain ⟨rfl, h⟩ := Qv_ok hq
          replace h := h hI
          clear hq
          refine y_aload_n 36 Y dX6_outPostfix_36 rfl ?_
          refine y_geta 37 Y 4 dX6_outPostfix_37 rfl rfl ?_
          refine y_iload 40 Y dX6_outPostfix_40 rfl ?_
          obtain ⟨o22, h⟩ := h
          obtain ⟨o23, h⟩ := h
          refine y_iald 42 Y dX6_outPostfix_42 rfl rfl o22 o23 (fun _ => ?_)
          refine y_if 43 60 Y dX6_outPostfix_43 rfl rfl (fun c => ?_) (fun c => ?_)
          · replace h := h.1 c
            refine y_aload_n 60 Y dX6_outPostfix_60 rfl ?_
            refine y_aload_n 61 Y dX6_outPostfix_61 rfl ?_
            refine y_geta 62 Y 5 dX6_outPostfix_62 rfl rfl ?_
            refine y_iload 65 Y dX6_outPostfix_65 rfl ?_
            refine y_iald 67 Y dX6_outPostfix_67 rfl rfl o22 o23 (fun _ => ?_)
            refine y_call 68 Y (as := [mi (S21 5 (T 14 l3))]) [] dX6_outPostfix_68 rfl rfl rfl rfl rfl h (fun r S24 hq hI _ => ?_)
            obtain ⟨rfl, h⟩ := Qv_ok hq
            replace h := h hI
            clear hq
            refine y_aload_n 71 Y dX6_outPostfix_71 rfl ?_
            refine y_geta 72 Y 4 dX6_outPostfix_72 rfl rfl ?_
            refine y_iload 75 Y dX6_outPostfix_75 rfl ?_
            refine y_iald 77 Y dX6_outPostfix_77 rfl rfl o22 o23 (fun _ => ?_)
            refine y_iconst 78 Y dX6_outPostfix_78 rfl ?_
            refine y_icmp 79 99 Y dX6_outPostfix_79 rfl rfl (fun c => ?_) (fun c => ?_)
            · replace h := h.1 c
              refine y_aload_n 99 Y dX6_outPostfix_99 rfl ?_
              refine y_geta 100 Y 4 dX6_outPostfix_100 rfl rfl ?_
              refine y_iload 103 Y dX6_outPostfix_103 rfl ?_
              refine y_iald 105 Y dX6_outPostfix_105 rfl rfl o22 o23 (fun _ => ?_)
              refine y_iconst 106 Y dX6_outPostfix_106 rfl ?_
              refine y_icmp 107 126 Y dX6_outPostfix_107 rfl rfl (fun c => ?_) (fun c => ?_)
              · replace h := h.1 c
                obtain ⟨o25, h⟩ := h
                refine y_iinc 126 Y [some mt, none, some (mi l2), some (mi (l3 + 1)), some (mi (T 14 l3))] dX6_outPostfix_126 rfl rfl o25 ?_
                refine y_goto 129 13 Y dX6_outPostfix_129 rfl rfl ?_
                obtain ⟨n1, hn, h⟩ := h
                exact Wk 13 _ [some mt, none, some (mi l2), some (mi (l3 + 1)), none] _ _ ⟨rfl, ⟨rfl, ⟨rfl, trivial⟩⟩⟩ (hIc n1 _ _ _ _ hn ((⟨rfl, _, _, rfl, rfl, h⟩)))
              · replace h := h.2 c
                refine y_aload_n 110 Y dX6_outPostfix_110 rfl ?_
                refine y_geta 111 Y 6 dX6_outPostfix_111 rfl rfl ?_
                refine y_iload 114 Y dX6_outPostfix_114 rfl ?_
                refine y_iald 116 Y dX6_outPostfix_116 rfl rfl o22 o23 (fun _ => ?_)
                refine y_if 117 126 Y dX6_outPostfix_117 rfl rfl (fun c => ?_) (fun c => ?_)
                · replace h := h.1 c
                  obtain ⟨o26, h⟩ := h
                  refine y_iinc 126 Y [some mt, none, some (mi l2), some (mi (l3 + 1)), some (mi (T 14 l3))] dX6_outPostfix_126 rfl rfl o26 ?_
                  refine y_goto 129 13 Y dX6_outPostfix_129 rfl rfl ?_
                  obtain ⟨n1, hn, h⟩ := h
                  exact Wk 13 _ [some mt, none, some (mi l2), some (mi (l3 + 1)), none] _ _ ⟨rfl, ⟨rfl, ⟨rfl, trivial⟩⟩⟩ (hIc n1 _ _ _ _ hn ((⟨rfl, _, _, rfl, rfl, h⟩)))
                · replace h := h.2 c
                  refine y_aload_n 120 Y dX6_outPostfix_120 rfl ?_
                  refine y_bipush 121 Y dX6_outPostfix_121 rfl ?_
                  refine y_call 123 Y (as := [mi 39]) [] dX6_outPostfix_123 rfl rfl rfl rfl rfl h (fun r S27 hq hI _ => ?_)
                  obtain ⟨rfl, h⟩ := Qv_ok hq
                  replace h := h hI
                  clear hq
                  obtain ⟨o28, h⟩ := h
                  refine y_iinc 126 Y [some mt, none, some (mi l2), some (mi (l3 + 1)), some (mi (T 14 l3))] dX6_outPostfix_126 rfl rfl o28 ?_
                  refine y_goto 129 13 Y dX6_outPostfix_129 rfl rfl ?_
                  obtain ⟨n1, hn, h⟩ := h
                  exact Wk 13 _ [some mt, none, some (mi l2), some (mi (l3 + 1)), none] _ _ ⟨rfl, ⟨rfl, ⟨rfl, trivial⟩⟩⟩ (hIc n1 _ _ _ _ hn ((⟨rfl, _, _, rfl, rfl, h⟩)))
            · replace h := h.2 c
              refine y_aload_n 82 Y dX6_outPostfix_82 rfl ?_
              refine y_bipush 83 Y dX6_outPostfix_83 rfl ?_
              refine y_aload_n 85 Y dX6_outPostfix_85 rfl ?_
              refine y_geta 86 Y 7 dX6_outPostfix_86 rfl rfl ?_
              refine y_iload 89 Y dX6_outPostfix_89 rfl ?_
              refine y_iald 91 Y dX6_outPostfix_91 rfl rfl o22 o23 (fun _ => ?_)
              obtain ⟨o29, h⟩ := h
              refine y_iadd 92 Y dX6_outPostfix_92 o29 ?_
              refine y_call 93 Y (as := [mi (48 + (S24 7 (T 14 l3)))]) [] dX6_outPostfix_93 rfl rfl rfl rfl rfl h (fun r S30 hq hI _ => ?_)
              obtain ⟨rfl, h⟩ := Qv_ok hq
              replace h := h hI
              clear hq
              refine y_goto 96 126 Y dX6_outPostfix_96 rfl rfl ?_
              obtain ⟨o31, h⟩ := h
              refine y_iinc 126 Y [some mt, none, some (mi l2), some (mi (l3 + 1)), some (mi (T 14 l3))] dX6_outPostfix_126 rfl rfl o31 ?_
              refine y_goto 129 13 Y dX6_outPostfix_129 rfl rfl ?_
              obtain ⟨n1, hn, h⟩ := h
              exact Wk 13 _ [some mt, none, some (mi l2), some (mi (l3 + 1)), none] _ _ ⟨rfl, ⟨rfl, ⟨rfl, trivial⟩⟩⟩ (hIc n1 _ _ _ _ hn ((⟨rfl, _, _, rfl, rfl, h⟩)))
          · replace h := h.2 c
            refine y_aload_n 46 Y dX6_outPostfix_46 rfl ?_
            refine y_aload_n 47 Y dX6_outPostfix_47 rfl ?_
            refine y_geta 48 Y 5 dX6_outPostfix_48 rfl rfl ?_
            refine y_iload 51 Y dX6_outPostfix_51 rfl ?_
            refine y_iald 53 Y dX6_outPostfix_53 rfl rfl o22 o23 (fun _ => ?_)
            refine y_call 54 Y (as := [mi (S21 5 (T 14 l3))]) [] dX6_outPostfix_54 rfl rfl rfl rfl rfl h (fun r S32 hq hI _ => ?_)
            obtain ⟨rfl, h⟩ := Qv_ok hq
            replace h := h hI
            clear hq
            refine y_goto 57 71 Y dX6_outPostfix_57 rfl rfl ?_
            refine y_aload_n 71 Y dX6_outPostfix_71 rfl ?_
            refine y_geta 72 Y 4 dX6_outPostfix_72 rfl rfl ?_
            refine y_iload 75 Y dX6_outPostfix_75 rfl ?_
            refine y_iald 77 Y dX6_outPostfix_77 rfl rfl o22 o23 (fun _ => ?_)
            refine y_iconst 78 Y dX6_outPostfix_78 rfl ?_
            refine y_icmp 79 99 Y dX6_outPostfix_79 rfl rfl (fun c => ?_) (fun c => ?_)
            · replace h := h.1 c
              refine y_aload_n 99 Y dX6_outPostfix_99 rfl ?_
              refine y_geta 100 Y 4 dX6_outPostfix_100 rfl rfl ?_
              refine y_iload 103 Y dX6_outPostfix_103 rfl ?_
              refine y_iald 105 Y dX6_outPostfix_105 rfl rfl o22 o23 (fun _ => ?_)
              refine y_iconst 106 Y dX6_outPostfix_106 rfl ?_
              refine y_icmp 107 126 Y dX6_outPostfix_107 rfl rfl (fun c => ?_) (fun c => ?_)
              · replace h := h.1 c
                obtain ⟨o33, h⟩ := h
                refine y_iinc 126 Y [some mt, none, some (mi l2), some (mi (l3 + 1)), some (mi (T 14 l3))] dX6_outPostfix_126 rfl rfl o33 ?_
                refine y_goto 129 13 Y dX6_outPostfix_129 rfl rfl ?_
                obtain ⟨n1, hn, h⟩ := h
                exact Wk 13 _ [some mt, none, some (mi l2), some (mi (l3 + 1)), none] _ _ ⟨rfl, ⟨rfl, ⟨rfl, trivial⟩⟩⟩ (hIc n1 _ _ _ _ hn ((⟨rfl, _, _, rfl, rfl, h⟩)))
              · replace h := h.2 c
                refine y_aload_n 110 Y dX6_outPostfix_110 rfl ?_
                refine y_geta 111 Y 6 dX6_outPostfix_111 rfl rfl ?_
                refine y_iload 114 Y dX6_outPostfix_114 rfl ?_
                refine y_iald 116 Y dX6_outPostfix_116 rfl rfl o22 o23 (fun _ => ?_)
                refine y_if 117 126 Y dX6_outPostfix_117 rfl rfl (fun c => ?_) (fun c => ?_)
                · replace h := h.1 c
                  obtain ⟨o34, h⟩ := h
                  refine y_iinc 126 Y [some mt, none, some (mi l2), some (mi (l3 + 1)), some (mi (T 14 l3))] dX6_outPostfix_126 rfl rfl o34 ?_
                  refine y_goto 129 13 Y dX6_outPostfix_129 rfl rfl ?_
                  obtain ⟨n1, hn, h⟩ := h
                  exact Wk 13 _ [some mt, none, some (mi l2), some (mi (l3 + 1)), none] _ _ ⟨rfl, ⟨rfl, ⟨rfl, trivial⟩⟩⟩ (hIc n1 _ _ _ _ hn ((⟨rfl, _, _, rfl, rfl, h⟩)))
                · replace h := h.2 c
                  refine y_aload_n 120 Y dX6_outPostfix_120 rfl ?_
                  refine y_bipush 121 Y dX6_outPostfix_121 rfl ?_
                  refine y_call 123 Y (as := [mi 39]) [] dX6_outPostfix_123 rfl rfl rfl rfl rfl h (fun r S35 hq hI _ => ?_)
                  obtain ⟨rfl, h⟩ := Qv_ok hq
                  replace h := h hI
                  clear hq
                  obtain ⟨o36, h⟩ := h
                  refine y_iinc 126 Y [some mt, none, some (mi l2), some (mi (l3 + 1)), some (mi (T 14 l3))] dX6_outPostfix_126 rfl rfl o36 ?_
                  refine y_goto 129 13 Y dX6_outPostfix_129 rfl rfl ?_
                  obtain ⟨n1, hn, h⟩ := h
                  exact Wk 13 _ [some mt, none, some (mi l2), some (mi (l3 + 1)), none] _ _ ⟨rfl, ⟨rfl, ⟨rfl, trivial⟩⟩⟩ (hIc n1 _ _ _ _ hn ((⟨rfl, _, _, rfl, rfl, h⟩)))
            · replace h := h.2 c
              refine y_aload_n 82 Y dX6_outPostfix_82 rfl ?_
              refine y_bipush 83 Y dX6_outPostfix_83 rfl ?_
              refine y_aload_n 85 Y dX6_outPostfix_85 rfl ?_
              refine y_geta 86 Y 7 dX6_outPostfix_86 rfl rfl ?_
              refine y_iload 89 Y dX6_outPostfix_89 rfl ?_
              refine y_iald 91 Y dX6_outPostfix_91 rfl rfl o22 o23 (fun _ => ?_)
              obtain ⟨o37, h⟩ := h
              refine y_iadd 92 Y dX6_outPostfix_92 o37 ?_
              refine y_call 93 Y (as := [mi (48 + (S32 7 (T 14 l3)))]) [] dX6_outPostfix_93 rfl rfl rfl rfl rfl h (fun r S38 hq hI _ => ?_)
              obtain ⟨rfl, h⟩ := Qv_ok hq
              replace h := h hI
              clear hq
              refine y_goto 96 126 Y dX6_outPostfix_96 rfl rfl ?_
              obtain ⟨o39, h⟩ := h
              refine y_iinc 126 Y [some mt, none, some (mi l2), some (mi (l3 + 1)), some (mi (T 14 l3))] dX6_outPostfix_126 rfl rfl o39 ?_
              refine y_goto 129 13 Y dX6_outPostfix_129 rfl rfl ?_
              obtain ⟨n1, hn, h⟩ := h
              exact Wk 13 _ [some mt, none, some (mi l2), some (mi (l3 + 1)), none] _ _ ⟨rfl, ⟨rfl, ⟨rfl, trivial⟩⟩⟩ (hIc n1 _ _ _ _ hn ((⟨rfl, _, _, rfl, rfl, h⟩)))
set_option maxHeartbeats 4000000 in
theorem of_outWords {g : mG} {S : mS}  {Qp : Option mV → mS → Prop} (I7 : Nat → Int → mS → Prop)
    (hE : mI S → (∃ n1, I7 n1 0 (mup S 42 0 0)))
    (h7 : ∀ (n : Nat) (l1 : Int) (T : mS), mI T → (-2147483648 ≤ l1 ∧ l1 ≤ 2147483647) → I7 n l1 T → (((T 25 0) ≤ l1) → Qp none T) ∧ (¬ ((T 25 0) ≤ l1) → (0 ≤ l1) ∧ (l1 < 1000) ∧ (((T 24 l1) ≠ 0) → (((T 24 l1) ≠ 0) → (-2147483648 ≤ ((l1 + 1) : Int) ∧ (l1 + 1) ≤ 2147483647) ∧ (∃ n1, n1 < n ∧ I7 n1 (l1 + 1) T)) ∧ (¬ ((T 24 l1) ≠ 0) → CX_prints g [mt, mi (T 21 l1)] T (Qv fun S4 => mI S4 → (-2147483648 ≤ ((l1 + 1) : Int) ∧ (l1 + 1) ≤ 2147483647) ∧ (∃ n1, n1 < n ∧ I7 n1 (l1 + 1) S4)))) ∧ (¬ ((T 24 l1) ≠ 0) → (((T 20 l1) ≠ 0) → (((T 24 l1) ≠ 0) → (-2147483648 ≤ ((l1 + 1) : Int) ∧ (l1 + 1) ≤ 2147483647) ∧ (∃ n1, n1 < n ∧ I7 n1 (l1 + 1) T)) ∧ (¬ ((T 24 l1) ≠ 0) → CX_prints g [mt, mi (T 21 l1)] T (Qv fun S7 => mI S7 → (-2147483648 ≤ ((l1 + 1) : Int) ∧ (l1 + 1) ≤ 2147483647) ∧ (∃ n1, n1 < n ∧ I7 n1 (l1 + 1) S7)))) ∧ (¬ ((T 20 l1) ≠ 0) → CX_outNumber g [mt, mi (T 21 l1)] T (Qv fun S9 => mI S9 → (-2147483648 ≤ ((l1 + 1) : Int) ∧ (l1 + 1) ≤ 2147483647) ∧ (∃ n1, n1 < n ∧ I7 n1 (l1 + 1) S9))))))
    : CX_outWords g [mt] S Qp := by
  refine cm_y ⟨by decide, rfl⟩ (by simp [mcat]) (by simp) (fun n pc L st S => (pc = 7 ∧ ∃ (l1 : Int), L = [some mt, some (mi l1)] ∧ st = [] ∧ I7 n l1 S)) ?_ ?_
  · intro ha hS P Y Wk hIc
    have h := hE hS
    clear hE ha h7
    refine y_aload_n 0 Y dX6_outWords_0 rfl ?_
    refine y_iconst 1 Y dX6_outWords_1 rfl ?_
    refine y_putf 2 Y 42 dX6_outWords_2 rfl rfl (fun q => absurd q (by decide)) ?_
    refine y_iconst 5 Y dX6_outWords_5 rfl ?_
    refine y_istore_n 6 Y [some mt, some (mi 0)] dX6_outWords_6 rfl rfl ?_
    obtain ⟨n1, h⟩ := h
    exact Wk 7 _ [some mt, some (mi 0)] _ _ ⟨rfl, ⟨rfl, trivial⟩⟩ (hIc n1 _ _ _ _ ((⟨rfl, _, rfl, rfl, h⟩)))
  · intro n pc L st T hi hS hL P Y Wk hIc
    clear hE
    rcases hi with ⟨rfl, l1, rfl, rfl, hi⟩
    · have h := h7 n l1 T hS (hL 1 _ rfl) hi
      clear hL hi h7
      refine y_iload_n 7 Y dX6_outWords_7 rfl ?_
      refine y_aload_n 8 Y dX6_outWords_8 rfl ?_
      refine y_getf 9 Y 25 dX6_outWords_9 rfl rfl (fun _ => ?_)
      refine y_icmp 12 71 Y dX6_outWords_12 rfl rfl (fun c => ?_) (fun c => ?_)
      · replace h := h.1 c
        exact y_ret 71 Y dX6_outWords_71 rfl h
      · replace h := h.2 c
        refine y_aload_n 15 Y dX6_outWords_15 rfl ?_
        refine y_geta 16 Y 24 dX6_outWords_16 rfl rfl ?_
        refine y_iload_n 19 Y dX6_outWords_19 rfl ?_
        obtain ⟨o1, h⟩ := h
        obtain ⟨o2, h⟩ := h
        refine y_bald 20 Y dX6_outWords_20 rfl rfl o1 o2 (fun _ => ?_)
        refine y_if 21 46 Y dX6_outWords_21 rfl rfl (fun c => ?_) (fun c => ?_)
        · replace h := h.1 c
          refine y_aload_n 46 Y dX6_outWords_46 rfl ?_
          refine y_geta 47 Y 24 dX6_outWords_47 rfl rfl ?_
          refine y_iload_n 50 Y dX6_outWords_50 rfl ?_
          refine y_bald 51 Y dX6_outWords_51 rfl rfl o1 o2 (fun _ => ?_)
          refine y_if 52 65 Y dX6_outWords_52 rfl rfl (fun c => ?_) (fun c => ?_)
          · replace h := h.1 c
            obtain ⟨o3, h⟩ := h
            refine y_iinc 65 Y [some mt, some (mi (l1 + 1))] dX6_outWords_65 rfl rfl o3 ?_
            refine y_goto 68 7 Y dX6_outWords_68 rfl rfl ?_
            obtain ⟨n1, hn, h⟩ := h
            exact Wk 7 _ [some mt, some (mi (l1 + 1))] _ _ ⟨rfl, ⟨rfl, trivial⟩⟩ (hIc n1 _ _ _ _ hn ((⟨rfl, _, rfl, rfl, h⟩)))
          · replace h := h.2 c
            refine y_aload_n 55 Y dX6_outWords_55 rfl ?_
            refine y_aload_n 56 Y dX6_outWords_56 rfl ?_
            refine y_geta 57 Y 21 dX6_outWords_57 rfl rfl ?_
            refine y_iload_n 60 Y dX6_outWords_60 rfl ?_
            refine y_iald 61 Y dX6_outWords_61 rfl rfl o1 o2 (fun _ => ?_)
            refine y_call 62 Y (as := [mi (T 21 l1)]) [] dX6_outWords_62 rfl rfl rfl rfl rfl h (fun r S4 hq hI _ => ?_)
            obtain ⟨rfl, h⟩ := Qv_ok hq
            replace h := h hI
            clear hq
            obtain ⟨o5, h⟩ := h
            refine y_iinc 65 Y [some mt, some (mi (l1 + 1))] dX6_outWords_65 rfl rfl o5 ?_
            refine y_goto 68 7 Y dX6_outWords_68 rfl rfl ?_
            obtain ⟨n1, hn, h⟩ := h
            exact Wk 7 _ [some mt, some (mi (l1 + 1))] _ _ ⟨rfl, ⟨rfl, trivial⟩⟩ (hIc n1 _ _ _ _ hn ((⟨rfl, _, rfl, rfl, h⟩)))
        · replace h := h.2 c
          refine y_aload_n 24 Y dX6_outWords_24 rfl ?_
          refine y_geta 25 Y 20 dX6_outWords_25 rfl rfl ?_
          refine y_iload_n 28 Y dX6_outWords_28 rfl ?_
          refine y_iald 29 Y dX6_outWords_29 rfl rfl o1 o2 (fun _ => ?_)
          refine y_if 30 46 Y dX6_outWords_30 rfl rfl (fun c => ?_) (fun c => ?_)
          · replace h := h.1 c
            refine y_aload_n 46 Y dX6_outWords_46 rfl ?_
            refine y_geta 47 Y 24 dX6_outWords_47 rfl rfl ?_
            refine y_iload_n 50 Y dX6_outWords_50 rfl ?_
            refine y_bald 51 Y dX6_outWords_51 rfl rfl o1 o2 (fun _ => ?_)
            refine y_if 52 65 Y dX6_outWords_52 rfl rfl (fun c => ?_) (fun c => ?_)
            · replace h := h.1 c
              obtain ⟨o6, h⟩ := h
              refine y_iinc 65 Y [some mt, some (mi (l1 + 1))] dX6_outWords_65 rfl rfl o6 ?_
              refine y_goto 68 7 Y dX6_outWords_68 rfl rfl ?_
              obtain ⟨n1, hn, h⟩ := h
              exact Wk 7 _ [some mt, some (mi (l1 + 1))] _ _ ⟨rfl, ⟨rfl, trivial⟩⟩ (hIc n1 _ _ _ _ hn ((⟨rfl, _, rfl, rfl, h⟩)))
            · replace h := h.2 c
              refine y_aload_n 55 Y dX6_outWords_55 rfl ?_
              refine y_aload_n 56 Y dX6_outWords_56 rfl ?_
              refine y_geta 57 Y 21 dX6_outWords_57 rfl rfl ?_
              refine y_iload_n 60 Y dX6_outWords_60 rfl ?_
              refine y_iald 61 Y dX6_outWords_61 rfl rfl o1 o2 (fun _ => ?_)
              refine y_call 62 Y (as := [mi (T 21 l1)]) [] dX6_outWords_62 rfl rfl rfl rfl rfl h (fun r S7 hq hI _ => ?_)
              obtain ⟨rfl, h⟩ := Qv_ok hq
              replace h := h hI
              clear hq
              obtain ⟨o8, h⟩ := h
              refine y_iinc 65 Y [some mt, some (mi (l1 + 1))] dX6_outWords_65 rfl rfl o8 ?_
              refine y_goto 68 7 Y dX6_outWords_68 rfl rfl ?_
              obtain ⟨n1, hn, h⟩ := h
              exact Wk 7 _ [some mt, some (mi (l1 + 1))] _ _ ⟨rfl, ⟨rfl, trivial⟩⟩ (hIc n1 _ _ _ _ hn ((⟨rfl, _, rfl, rfl, h⟩)))
          · replace h := h.2 c
            refine y_aload_n 33 Y dX6_outWords_33 rfl ?_
            refine y_aload_n 34 Y dX6_outWords_34 rfl ?_
            refine y_geta 35 Y 21 dX6_outWords_35 rfl rfl ?_
            refine y_iload_n 38 Y dX6_outWords_38 rfl ?_
            refine y_iald 39 Y dX6_outWords_39 rfl rfl o1 o2 (fun _ => ?_)
            refine y_call 40 Y (as := [mi (T 21 l1)]) [] dX6_outWords_40 rfl rfl rfl rfl rfl h (fun r S9 hq hI _ => ?_)
            obtain ⟨rfl, h⟩ := Qv_ok hq
            replace h := h hI
            clear hq
            refine y_goto 43 65 Y dX6_outWords_43 rfl rfl ?_
            obtain ⟨o10, h⟩ := h
            refine y_iinc 65 Y [some mt, some (mi (l1 + 1))] dX6_outWords_65 rfl rfl o10 ?_
            refine y_goto 68 7 Y dX6_outWords_68 rfl rfl ?_
            obtain ⟨n1, hn, h⟩ := h
            exact Wk 7 _ [some mt, some (mi (l1 + 1))] _ _ ⟨rfl, ⟨rfl, trivial⟩⟩ (hIc n1 _ _ _ _ hn ((⟨rfl, _, rfl, rfl, h⟩)))
set_option maxHeartbeats 4000000 in
theorem of_recall {g : mG} {S : mS} {a1 : Int} {Qp : Option mV → mS → Prop}
    (hE : mI S → (-2147483648 ≤ a1 ∧ a1 ≤ 2147483647) → CX_isName g [mi a1] S (Qi fun v2 S1 => mI S1 → (-2147483648 ≤ v2 ∧ v2 ≤ 2147483647) → ((v2 ≠ 0) → CX_refused g [mt, mi 0, mi 0, mi 0] S1 (Qi fun v4 S3 => mI S3 → (-2147483648 ≤ v4 ∧ v4 ≤ 2147483647) → ((v4 ≠ 0) → Qp (some (mi 0)) S3) ∧ (¬ (v4 ≠ 0) → (-2147483648 ≤ ((a1 - 97) : Int) ∧ (a1 - 97) ≤ 2147483647) ∧ (0 ≤ (a1 - 97)) ∧ ((a1 - 97) < 26) ∧ (((S3 47 (a1 - 97)) ≠ 0) → CX_copyValue g [mt, mi 26, mi (a1 - 97)] S3 (Qv fun S8 => mI S8 → Qp (some (mi 1)) S8)) ∧ (¬ ((S3 47 (a1 - 97)) ≠ 0) → Qp (some (mi 0)) S3)))) ∧ (¬ (v2 ≠ 0) → CX_refused g [mt, mi 1, mi 0, mi 0] S1 (Qi fun v10 S9 => mI S9 → (-2147483648 ≤ v10 ∧ v10 ≤ 2147483647) → ((v10 ≠ 0) → Qp (some (mi 0)) S9) ∧ (¬ (v10 ≠ 0) → (-2147483648 ≤ ((a1 - 97) : Int) ∧ (a1 - 97) ≤ 2147483647) ∧ (0 ≤ (a1 - 97)) ∧ ((a1 - 97) < 26) ∧ (((S9 47 (a1 - 97)) ≠ 0) → CX_copyValue g [mt, mi 26, mi (a1 - 97)] S9 (Qv fun S14 => mI S14 → Qp (some (mi 1)) S14)) ∧ (¬ ((S9 47 (a1 - 97)) ≠ 0) → Qp (some (mi 0)) S9))))))
    : CX_recall g [mt, mi a1] S Qp := by
  refine cm_y ⟨by decide, rfl⟩ (by simp [mcat]) (by simp) (fun _ _ _ _ _ => False) ?_ ?_
  · intro ha hS P Y Wk hIc
    have h := hE hS (mokI (ha (mi a1) (by simp)))
    clear hE ha
    refine y_aload_n 0 Y dX6_recall_0 rfl ?_
    refine y_iload_n 1 Y dX6_recall_1 rfl ?_
    refine y_calls 2 Y (as := [mi a1]) [mt] dX6_recall_2 rfl rfl rfl rfl rfl h (fun r S1 hq hI hr => ?_)
    obtain ⟨v2, rfl, h⟩ := Qi_ok hq
    replace h := h hI (mokI (hr _ rfl))
    clear hq hr
    refine y_if 5 12 Y dX6_recall_5 rfl rfl (fun c => ?_) (fun c => ?_)
    · replace h := h.1 c
      refine y_iconst 12 Y dX6_recall_12 rfl ?_
      refine y_iconst 13 Y dX6_recall_13 rfl ?_
      refine y_iconst 14 Y dX6_recall_14 rfl ?_
      refine y_call 15 Y (as := [mi 0, mi 0, mi 0]) [] dX6_recall_15 rfl rfl rfl rfl rfl h (fun r S3 hq hI hr => ?_)
      obtain ⟨v4, rfl, h⟩ := Qi_ok hq
      replace h := h hI (mokI (hr _ rfl))
      clear hq hr
      refine y_if 18 33 Y dX6_recall_18 rfl rfl (fun c => ?_) (fun c => ?_)
      · replace h := h.1 c
        refine y_iconst 33 Y dX6_recall_33 rfl ?_
        exact y_zret 34 Y dX6_recall_34 rfl (by decide) h
      · replace h := h.2 c
        refine y_aload_n 21 Y dX6_recall_21 rfl ?_
        refine y_geta 22 Y 47 dX6_recall_22 rfl rfl ?_
        refine y_iload_n 25 Y dX6_recall_25 rfl ?_
        refine y_bipush 26 Y dX6_recall_26 rfl ?_
        obtain ⟨o5, h⟩ := h
        refine y_isub 28 Y dX6_recall_28 o5 ?_
        obtain ⟨o6, h⟩ := h
        obtain ⟨o7, h⟩ := h
        refine y_bald 29 Y dX6_recall_29 rfl rfl o6 o7 (fun _ => ?_)
        refine y_if 30 35 Y dX6_recall_30 rfl rfl (fun c => ?_) (fun c => ?_)
        · replace h := h.1 c
          refine y_aload_n 35 Y dX6_recall_35 rfl ?_
          refine y_bipush 36 Y dX6_recall_36 rfl ?_
          refine y_iload_n 38 Y dX6_recall_38 rfl ?_
          refine y_bipush 39 Y dX6_recall_39 rfl ?_
          refine y_isub 41 Y dX6_recall_41 o5 ?_
          refine y_call 42 Y (as := [mi 26, mi (a1 - 97)]) [] dX6_recall_42 rfl rfl rfl rfl rfl h (fun r S8 hq hI _ => ?_)
          obtain ⟨rfl, h⟩ := Qv_ok hq
          replace h := h hI
          clear hq
          refine y_iconst 45 Y dX6_recall_45 rfl ?_
          exact y_zret 46 Y dX6_recall_46 rfl (by decide) h
        · replace h := h.2 c
          refine y_iconst 33 Y dX6_recall_33 rfl ?_
          exact y_zret 34 Y dX6_recall_34 rfl (by decide) h
    · replace h := h.2 c
      refine y_iconst 8 Y dX6_recall_8 rfl ?_
      refine y_goto 9 13 Y dX6_recall_9 rfl rfl ?_
      refine y_iconst 13 Y dX6_recall_13 rfl ?_
      refine y_iconst 14 Y dX6_recall_14 rfl ?_
      refine y_call 15 Y (as := [mi 1, mi 0, mi 0]) [] dX6_recall_15 rfl rfl rfl rfl rfl h (fun r S9 hq hI hr => ?_)
      obtain ⟨v10, rfl, h⟩ := Qi_ok hq
      replace h := h hI (mokI (hr _ rfl))
      clear hq hr
      refine y_if 18 33 Y dX6_recall_18 rfl rfl (fun c => ?_) (fun c => ?_)
      · replace h := h.1 c
        refine y_iconst 33 Y dX6_recall_33 rfl ?_
        exact y_zret 34 Y dX6_recall_34 rfl (by decide) h
      · replace h := h.2 c
        refine y_aload_n 21 Y dX6_recall_21 rfl ?_
        refine y_geta 22 Y 47 dX6_recall_22 rfl rfl ?_
        refine y_iload_n 25 Y dX6_recall_25 rfl ?_
        refine y_bipush 26 Y dX6_recall_26 rfl ?_
        obtain ⟨o11, h⟩ := h
        refine y_isub 28 Y dX6_recall_28 o11 ?_
        obtain ⟨o12, h⟩ := h
        obtain ⟨o13, h⟩ := h
        refine y_bald 29 Y dX6_recall_29 rfl rfl o12 o13 (fun _ => ?_)
        refine y_if 30 35 Y dX6_recall_30 rfl rfl (fun c => ?_) (fun c => ?_)
        · replace h := h.1 c
          refine y_aload_n 35 Y dX6_recall_35 rfl ?_
          refine y_bipush 36 Y dX6_recall_36 rfl ?_
          refine y_iload_n 38 Y dX6_recall_38 rfl ?_
          refine y_bipush 39 Y dX6_recall_39 rfl ?_
          refine y_isub 41 Y dX6_recall_41 o11 ?_
          refine y_call 42 Y (as := [mi 26, mi (a1 - 97)]) [] dX6_recall_42 rfl rfl rfl rfl rfl h (fun r S14 hq hI _ => ?_)
          obtain ⟨rfl, h⟩ := Qv_ok hq
          replace h := h hI
          clear hq
          refine y_iconst 45 Y dX6_recall_45 rfl ?_
          exact y_zret 46 Y dX6_recall_46 rfl (by decide) h
        · replace h := h.2 c
          refine y_iconst 33 Y dX6_recall_33 rfl ?_
          exact y_zret 34 Y dX6_recall_34 rfl (by decide) h
  · intro n pc L st T hi
    exact hi.elim
set_option maxHeartbeats 4000000 in
theorem of_setInt {g : mG} {S : mS} {a1 a2 : Int} {Qp : Option mV → mS → Prop}
    (hE : mI S → (-2147483648 ≤ a1 ∧ a1 ≤ 2147483647) → (-2147483648 ≤ a2 ∧ a2 ≤ 2147483647) → (-2147483648 ≤ ((28 * a1) : Int) ∧ (28 * a1) ≤ 2147483647) ∧ ((a2 ≤ 0) → ((0 ≤ a2) → (0 ≤ (28 * a1)) ∧ ((28 * a1) < 104160) ∧ ((0 ≤ a2) → CX_put g [mt, mi 0, mi a2] (mup S 3 (28 * a1) 0) (Qv fun S4 => mI S4 → CX_hold g [mt, mi a1, mi 0, mi 1] S4 (Qv fun S5 => mI S5 → CX_put g [mt, mi 0, mi 1] S5 (Qv fun S6 => mI S6 → CX_hold g [mt, mi a1, mi 0, mi 14] S6 (Qv fun S7 => mI S7 → Qp none S7))))) ∧ (¬ (0 ≤ a2) → (-2147483648 ≤ ((-a2) : Int) ∧ (-a2) ≤ 2147483647) ∧ CX_put g [mt, mi 0, mi (-a2)] (mup S 3 (28 * a1) 0) (Qv fun S9 => mI S9 → CX_hold g [mt, mi a1, mi 0, mi 1] S9 (Qv fun S10 => mI S10 → CX_put g [mt, mi 0, mi 1] S10 (Qv fun S11 => mI S11 → CX_hold g [mt, mi a1, mi 0, mi 14] S11 (Qv fun S12 => mI S12 → Qp none S12)))))) ∧ (¬ (0 ≤ a2) → (0 ≤ (28 * a1)) ∧ ((28 * a1) < 104160) ∧ ((0 ≤ a2) → CX_put g [mt, mi 0, mi a2] (mup S 3 (28 * a1) (-1)) (Qv fun S15 => mI S15 → CX_hold g [mt, mi a1, mi 0, mi 1] S15 (Qv fun S16 => mI S16 → CX_put g [mt, mi 0, mi 1] S16 (Qv fun S17 => mI S17 → CX_hold g [mt, mi a1, mi 0, mi 14] S17 (Qv fun S18 => mI S18 → Qp none S18))))) ∧ (¬ (0 ≤ a2) → (-2147483648 ≤ ((-a2) : Int) ∧ (-a2) ≤ 2147483647) ∧ CX_put g [mt, mi 0, mi (-a2)] (mup S 3 (28 * a1) (-1)) (Qv fun S20 => mI S20 → CX_hold g [mt, mi a1, mi 0, mi 1] S20 (Qv fun S21 => mI S21 → CX_put g [mt, mi 0, mi 1] S21 (Qv fun S22 => mI S22 → CX_hold g [mt, mi a1, mi 0, mi 14] S22 (Qv fun S23 => mI S23 → Qp none S23))))))) ∧ (¬ (a2 ≤ 0) → (0 ≤ (28 * a1)) ∧ ((28 * a1) < 104160) ∧ ((0 ≤ a2) → CX_put g [mt, mi 0, mi a2] (mup S 3 (28 * a1) 1) (Qv fun S26 => mI S26 → CX_hold g [mt, mi a1, mi 0, mi 1] S26 (Qv fun S27 => mI S27 → CX_put g [mt, mi 0, mi 1] S27 (Qv fun S28 => mI S28 → CX_hold g [mt, mi a1, mi 0, mi 14] S28 (Qv fun S29 => mI S29 → Qp none S29))))) ∧ (¬ (0 ≤ a2) → (-2147483648 ≤ ((-a2) : Int) ∧ (-a2) ≤ 2147483647) ∧ CX_put g [mt, mi 0, mi (-a2)] (mup S 3 (28 * a1) 1) (Qv fun S31 => mI S31 → CX_hold g [mt, mi a1, mi 0, mi 1] S31 (Qv fun S32 => mI S32 → CX_put g [mt, mi 0, mi 1] S32 (Qv fun S33 => mI S33 → CX_hold g [mt, mi a1, mi 0, mi 14] S33 (Qv fun S34 => mI S34 → Qp none S34)))))))
    : CX_setInt g [mt, mi a1, mi a2] S Qp := by
  refine cm_y ⟨by decide, rfl⟩ (by simp [mcat]) (by simp) (fun _ _ _ _ _ => False) ?_ ?_
  · intro ha hS P Y Wk hIc
    have h := hE hS (mokI (ha (mi a1) (by simp))) (mokI (ha (mi a2) (by simp)))
    clear hE ha
    refine y_aload_n 0 Y dX6_setInt_0 rfl ?_
    refine y_geta 1 Y 3 dX6_setInt_1 rfl rfl ?_
    refine y_bipush 4 Y dX6_setInt_4 rfl ?_
    refine y_iload_n 6 Y dX6_setInt_6 rfl ?_
    obtain ⟨o1, h⟩ := h
    refine y_imul 7 Y dX6_setInt_7 o1 ?_
    refine y_iload_n 8 Y dX6_setInt_8 rfl ?_
    refine y_if 9 16 Y dX6_setInt_9 rfl rfl (fun c => ?_) (fun c => ?_)
    · replace h := h.1 c
      refine y_iload_n 16 Y dX6_setInt_16 rfl ?_
      refine y_if 17 24 Y dX6_setInt_17 rfl rfl (fun c => ?_) (fun c => ?_)
      · replace h := h.1 c
        refine y_iconst 24 Y dX6_setInt_24 rfl ?_
        obtain ⟨o2, h⟩ := h
        obtain ⟨o3, h⟩ := h
        refine y_iast 25 Y dX6_setInt_25 rfl rfl o2 o3 ?_
        refine y_aload_n 26 Y dX6_setInt_26 rfl ?_
        refine y_iconst 27 Y dX6_setInt_27 rfl ?_
        refine y_iload_n 28 Y dX6_setInt_28 rfl ?_
        refine y_if 29 37 Y dX6_setInt_29 rfl rfl (fun c => ?_) (fun c => ?_)
        · replace h := h.1 c
          refine y_iload_n 37 Y dX6_setInt_37 rfl ?_
          refine y_call 38 Y (as := [mi 0, mi a2]) [] dX6_setInt_38 rfl rfl rfl rfl rfl h (fun r S4 hq hI _ => ?_)
          obtain ⟨rfl, h⟩ := Qv_ok hq
          replace h := h hI
          clear hq
          refine y_aload_n 41 Y dX6_setInt_41 rfl ?_
          refine y_iload_n 42 Y dX6_setInt_42 rfl ?_
          refine y_iconst 43 Y dX6_setInt_43 rfl ?_
          refine y_iconst 44 Y dX6_setInt_44 rfl ?_
          refine y_call 45 Y (as := [mi a1, mi 0, mi 1]) [] dX6_setInt_45 rfl rfl rfl rfl rfl h (fun r S5 hq hI _ => ?_)
          obtain ⟨rfl, h⟩ := Qv_ok hq
          replace h := h hI
          clear hq
          refine y_aload_n 48 Y dX6_setInt_48 rfl ?_
          refine y_iconst 49 Y dX6_setInt_49 rfl ?_
          refine y_iconst 50 Y dX6_setInt_50 rfl ?_
          refine y_call 51 Y (as := [mi 0, mi 1]) [] dX6_setInt_51 rfl rfl rfl rfl rfl h (fun r S6 hq hI _ => ?_)
          obtain ⟨rfl, h⟩ := Qv_ok hq
          replace h := h hI
          clear hq
          refine y_aload_n 54 Y dX6_setInt_54 rfl ?_
          refine y_iload_n 55 Y dX6_setInt_55 rfl ?_
          refine y_iconst 56 Y dX6_setInt_56 rfl ?_
          refine y_bipush 57 Y dX6_setInt_57 rfl ?_
          refine y_call 59 Y (as := [mi a1, mi 0, mi 14]) [] dX6_setInt_59 rfl rfl rfl rfl rfl h (fun r S7 hq hI _ => ?_)
          obtain ⟨rfl, h⟩ := Qv_ok hq
          replace h := h hI
          clear hq
          exact y_ret 62 Y dX6_setInt_62 rfl h
        · replace h := h.2 c
          refine y_iload_n 32 Y dX6_setInt_32 rfl ?_
          obtain ⟨o8, h⟩ := h
          refine y_ineg 33 Y dX6_setInt_33 o8 ?_
          refine y_goto 34 38 Y dX6_setInt_34 rfl rfl ?_
          refine y_call 38 Y (as := [mi 0, mi (-a2)]) [] dX6_setInt_38 rfl rfl rfl rfl rfl h (fun r S9 hq hI _ => ?_)
          obtain ⟨rfl, h⟩ := Qv_ok hq
          replace h := h hI
          clear hq
          refine y_aload_n 41 Y dX6_setInt_41 rfl ?_
          refine y_iload_n 42 Y dX6_setInt_42 rfl ?_
          refine y_iconst 43 Y dX6_setInt_43 rfl ?_
          refine y_iconst 44 Y dX6_setInt_44 rfl ?_
          refine y_call 45 Y (as := [mi a1, mi 0, mi 1]) [] dX6_setInt_45 rfl rfl rfl rfl rfl h (fun r S10 hq hI _ => ?_)
          obtain ⟨rfl, h⟩ := Qv_ok hq
          replace h := h hI
          clear hq
          refine y_aload_n 48 Y dX6_setInt_48 rfl ?_
          refine y_iconst 49 Y dX6_setInt_49 rfl ?_
          refine y_iconst 50 Y dX6_setInt_50 rfl ?_
          refine y_call 51 Y (as := [mi 0, mi 1]) [] dX6_setInt_51 rfl rfl rfl rfl rfl h (fun r S11 hq hI _ => ?_)
          obtain ⟨rfl, h⟩ := Qv_ok hq
          replace h := h hI
          clear hq
          refine y_aload_n 54 Y dX6_setInt_54 rfl ?_
          refine y_iload_n 55 Y dX6_setInt_55 rfl ?_
          refine y_iconst 56 Y dX6_setInt_56 rfl ?_
          refine y_bipush 57 Y dX6_setInt_57 rfl ?_
          refine y_call 59 Y (as := [mi a1, mi 0, mi 14]) [] dX6_setInt_59 rfl rfl rfl rfl rfl h (fun r S12 hq hI _ => ?_)
          obtain ⟨rfl, h⟩ := Qv_ok hq
          replace h := h hI
          clear hq
          exact y_ret 62 Y dX6_setInt_62 rfl h
      · replace h := h.2 c
        refine y_iconst 20 Y dX6_setInt_20 rfl ?_
        refine y_goto 21 25 Y dX6_setInt_21 rfl rfl ?_
        obtain ⟨o13, h⟩ := h
        obtain ⟨o14, h⟩ := h
        refine y_iast 25 Y dX6_setInt_25 rfl rfl o13 o14 ?_
        refine y_aload_n 26 Y dX6_setInt_26 rfl ?_
        refine y_iconst 27 Y dX6_setInt_27 rfl ?_
        refine y_iload_n 28 Y dX6_setInt_28 rfl ?_
        refine y_if 29 37 Y dX6_setInt_29 rfl rfl (fun c => ?_) (fun c => ?_)
        · replace h := h.1 c
          refine y_iload_n 37 Y dX6_setInt_37 rfl ?_
          refine y_call 38 Y (as := [mi 0, mi a2]) [] dX6_setInt_38 rfl rfl rfl rfl rfl h (fun r S15 hq hI _ => ?_)
          obtain ⟨rfl, h⟩ := Qv_ok hq
          replace h := h hI
          clear hq
          refine y_aload_n 41 Y dX6_setInt_41 rfl ?_
          refine y_iload_n 42 Y dX6_setInt_42 rfl ?_
          refine y_iconst 43 Y dX6_setInt_43 rfl ?_
          refine y_iconst 44 Y dX6_setInt_44 rfl ?_
          refine y_call 45 Y (as := [mi a1, mi 0, mi 1]) [] dX6_setInt_45 rfl rfl rfl rfl rfl h (fun r S16 hq hI _ => ?_)
          obtain ⟨rfl, h⟩ := Qv_ok hq
          replace h := h hI
          clear hq
          refine y_aload_n 48 Y dX6_setInt_48 rfl ?_
          refine y_iconst 49 Y dX6_setInt_49 rfl ?_
          refine y_iconst 50 Y dX6_setInt_50 rfl ?_
          refine y_call 51 Y (as := [mi 0, mi 1]) [] dX6_setInt_51 rfl rfl rfl rfl rfl h (fun r S17 hq hI _ => ?_)
          obtain ⟨rfl, h⟩ := Qv_ok hq
          replace h := h hI
          clear hq
          refine y_aload_n 54 Y dX6_setInt_54 rfl ?_
          refine y_iload_n 55 Y dX6_setInt_55 rfl ?_
          refine y_iconst 56 Y dX6_setInt_56 rfl ?_
          refine y_bipush 57 Y dX6_setInt_57 rfl ?_
          refine y_call 59 Y (as := [mi a1, mi 0, mi 14]) [] dX6_setInt_59 rfl rfl rfl rfl rfl h (fun r S18 hq hI _ => ?_)
          obtain ⟨rfl, h⟩ := Qv_ok hq
          replace h := h hI
          clear hq
          exact y_ret 62 Y dX6_setInt_62 rfl h
        · replace h := h.2 c
          refine y_iload_n 32 Y dX6_setInt_32 rfl ?_
          obtain ⟨o19, h⟩ := h
          refine y_ineg 33 Y dX6_setInt_33 o19 ?_
          refine y_goto 34 38 Y dX6_setInt_34 rfl rfl ?_
          refine y_call 38 Y (as := [mi 0, mi (-a2)]) [] dX6_setInt_38 rfl rfl rfl rfl rfl h (fun r S20 hq hI _ => ?_)
          obtain ⟨rfl, h⟩ := Qv_ok hq
          replace h := h hI
          clear hq
          refine y_aload_n 41 Y dX6_setInt_41 rfl ?_
          refine y_iload_n 42 Y dX6_setInt_42 rfl ?_
          refine y_iconst 43 Y dX6_setInt_43 rfl ?_
          refine y_iconst 44 Y dX6_setInt_44 rfl ?_
          refine y_call 45 Y (as := [mi a1, mi 0, mi 1]) [] dX6_setInt_45 rfl rfl rfl rfl rfl h (fun r S21 hq hI _ => ?_)
          obtain ⟨rfl, h⟩ := Qv_ok hq
          replace h := h hI
          clear hq
          refine y_aload_n 48 Y dX6_setInt_48 rfl ?_
          refine y_iconst 49 Y dX6_setInt_49 rfl ?_
          refine y_iconst 50 Y dX6_setInt_50 rfl ?_
          refine y_call 51 Y (as := [mi 0, mi 1]) [] dX6_setInt_51 rfl rfl rfl rfl rfl h (fun r S22 hq hI _ => ?_)
          obtain ⟨rfl, h⟩ := Qv_ok hq
          replace h := h hI
          clear hq
          refine y_aload_n 54 Y dX6_setInt_54 rfl ?_
          refine y_iload_n 55 Y dX6_setInt_55 rfl ?_
          refine y_iconst 56 Y dX6_setInt_56 rfl ?_
          refine y_bipush 57 Y dX6_setInt_57 rfl ?_
          refine y_call 59 Y (as := [mi a1, mi 0, mi 14]) [] dX6_setInt_59 rfl rfl rfl rfl rfl h (fun r S23 hq hI _ => ?_)
          obtain ⟨rfl, h⟩ := Qv_ok hq
          replace h := h hI
          clear hq
          exact y_ret 62 Y dX6_setInt_62 rfl h
    · replace h := h.2 c
      refine y_iconst 12 Y dX6_setInt_12 rfl ?_
      refine y_goto 13 25 Y dX6_setInt_13 rfl rfl ?_
      obtain ⟨o24, h⟩ := h
      obtain ⟨o25, h⟩ := h
      refine y_iast 25 Y dX6_setInt_25 rfl rfl o24 o25 ?_
      refine y_aload_n 26 Y dX6_setInt_26 rfl ?_
      refine y_iconst 27 Y dX6_setInt_27 rfl ?_
      refine y_iload_n 28 Y dX6_setInt_28 rfl ?_
      refine y_if 29 37 Y dX6_setInt_29 rfl rfl (fun c => ?_) (fun c => ?_)
      · replace h := h.1 c
        refine y_iload_n 37 Y dX6_setInt_37 rfl ?_
        refine y_call 38 Y (as := [mi 0, mi a2]) [] dX6_setInt_38 rfl rfl rfl rfl rfl h (fun r S26 hq hI _ => ?_)
        obtain ⟨rfl, h⟩ := Qv_ok hq
        replace h := h hI
        clear hq
        refine y_aload_n 41 Y dX6_setInt_41 rfl ?_
        refine y_iload_n 42 Y dX6_setInt_42 rfl ?_
        refine y_iconst 43 Y dX6_setInt_43 rfl ?_
        refine y_iconst 44 Y dX6_setInt_44 rfl ?_
        refine y_call 45 Y (as := [mi a1, mi 0, mi 1]) [] dX6_setInt_45 rfl rfl rfl rfl rfl h (fun r S27 hq hI _ => ?_)
        obtain ⟨rfl, h⟩ := Qv_ok hq
        replace h := h hI
        clear hq
        refine y_aload_n 48 Y dX6_setInt_48 rfl ?_
        refine y_iconst 49 Y dX6_setInt_49 rfl ?_
        refine y_iconst 50 Y dX6_setInt_50 rfl ?_
        refine y_call 51 Y (as := [mi 0, mi 1]) [] dX6_setInt_51 rfl rfl rfl rfl rfl h (fun r S28 hq hI _ => ?_)
        obtain ⟨rfl, h⟩ := Qv_ok hq
        replace h := h hI
        clear hq
        refine y_aload_n 54 Y dX6_setInt_54 rfl ?_
        refine y_iload_n 55 Y dX6_setInt_55 rfl ?_
        refine y_iconst 56 Y dX6_setInt_56 rfl ?_
        refine y_bipush 57 Y dX6_setInt_57 rfl ?_
        refine y_call 59 Y (as := [mi a1, mi 0, mi 14]) [] dX6_setInt_59 rfl rfl rfl rfl rfl h (fun r S29 hq hI _ => ?_)
        obtain ⟨rfl, h⟩ := Qv_ok hq
        replace h := h hI
        clear hq
        exact y_ret 62 Y dX6_setInt_62 rfl h
      · replace h := h.2 c
        refine y_iload_n 32 Y dX6_setInt_32 rfl ?_
        obtain ⟨o30, h⟩ := h
        refine y_ineg 33 Y dX6_setInt_33 o30 ?_
        refine y_goto 34 38 Y dX6_setInt_34 rfl rfl ?_
        refine y_call 38 Y (as := [mi 0, mi (-a2)]) [] dX6_setInt_38 rfl rfl rfl rfl rfl h (fun r S31 hq hI _ => ?_)
        obtain ⟨rfl, h⟩ := Qv_ok hq
        replace h := h hI
        clear hq
        refine y_aload_n 41 Y dX6_setInt_41 rfl ?_
        refine y_iload_n 42 Y dX6_setInt_42 rfl ?_
        refine y_iconst 43 Y dX6_setInt_43 rfl ?_
        refine y_iconst 44 Y dX6_setInt_44 rfl ?_
        refine y_call 45 Y (as := [mi a1, mi 0, mi 1]) [] dX6_setInt_45 rfl rfl rfl rfl rfl h (fun r S32 hq hI _ => ?_)
        obtain ⟨rfl, h⟩ := Qv_ok hq
        replace h := h hI
        clear hq
        refine y_aload_n 48 Y dX6_setInt_48 rfl ?_
        refine y_iconst 49 Y dX6_setInt_49 rfl ?_
        refine y_iconst 50 Y dX6_setInt_50 rfl ?_
        refine y_call 51 Y (as := [mi 0, mi 1]) [] dX6_setInt_51 rfl rfl rfl rfl rfl h (fun r S33 hq hI _ => ?_)
        obtain ⟨rfl, h⟩ := Qv_ok hq
        replace h := h hI
        clear hq
        refine y_aload_n 54 Y dX6_setInt_54 rfl ?_
        refine y_iload_n 55 Y dX6_setInt_55 rfl ?_
        refine y_iconst 56 Y dX6_setInt_56 rfl ?_
        refine y_bipush 57 Y dX6_setInt_57 rfl ?_
        refine y_call 59 Y (as := [mi a1, mi 0, mi 14]) [] dX6_setInt_59 rfl rfl rfl rfl rfl h (fun r S34 hq hI _ => ?_)
        obtain ⟨rfl, h⟩ := Qv_ok hq
        replace h := h hI
        clear hq
        exact y_ret 62 Y dX6_setInt_62 rfl h
  · intro n pc L st T hi
    exact hi.elim
set_option maxHeartbeats 4000000 in
theorem of_signed {g : mG} {S : mS} {a1 a2 a3 a4 : Int} {Qp : Option mV → mS → Prop}
    (hE : mI S → (-2147483648 ≤ a1 ∧ a1 ≤ 2147483647) → (-2147483648 ≤ a2 ∧ a2 ≤ 2147483647) → (-2147483648 ≤ a3 ∧ a3 ≤ 2147483647) → (-2147483648 ≤ a4 ∧ a4 ≤ 2147483647) → ((a4 = 0) → (0 ≤ a1) ∧ (a1 < 16) ∧ (((S 2 a1) ≠ 0) → Qp (some (mi a2)) S) ∧ (¬ ((S 2 a1) ≠ 0) → Qp (some (mi 0)) S)) ∧ (¬ (a4 = 0) → (0 ≤ a3) ∧ (a3 < 16) ∧ (((S 2 a3) ≠ 0) → ((a2 = 0) → CX_copy g [mt, mi a1, mi a3] S (Qv fun S5 => mI S5 → Qp (some (mi a4)) S5)) ∧ (¬ (a2 = 0) → (0 ≤ a1) ∧ (a1 < 16) ∧ (((S 2 a1) ≠ 0) → ((a2 ≠ a4) → CX_compare g [mt, mi a1, mi a3] S (Qi fun v9 S8 => mI S8 → (-2147483648 ≤ v9 ∧ v9 ≤ 2147483647) → ((v9 < 0) → CX_copy g [mt, mi 11, mi a3] S8 (Qv fun S10 => mI S10 → CX_minus g [mt, mi 11, mi a1] S10 (Qv fun S11 => mI S11 → CX_copy g [mt, mi a1, mi 11] S11 (Qv fun S12 => mI S12 → Qp (some (mi a4)) S12)))) ∧ (¬ (v9 < 0) → CX_minus g [mt, mi a1, mi a3] S8 (Qv fun S13 => mI S13 → ((v9 ≠ 0) → Qp (some (mi a2)) S13) ∧ (¬ (v9 ≠ 0) → Qp (some (mi 0)) S13))))) ∧ (¬ (a2 ≠ a4) → CX_plus g [mt, mi a1, mi a3] S (Qv fun S14 => mI S14 → Qp (some (mi a2)) S14))) ∧ (¬ ((S 2 a1) ≠ 0) → CX_copy g [mt, mi a1, mi a3] S (Qv fun S15 => mI S15 → Qp (some (mi a4)) S15)))) ∧ (¬ ((S 2 a3) ≠ 0) → (0 ≤ a1) ∧ (a1 < 16) ∧ (((S 2 a1) ≠ 0) → Qp (some (mi a2)) S) ∧ (¬ ((S 2 a1) ≠ 0) → Qp (some (mi 0)) S))))
    : CX_signed g [mt, mi a1, mi a2, mi a3, mi a4] S Qp := by
  refine cm_y ⟨by decide, rfl⟩ (by simp [mcat]) (by simp) (fun _ _ _ _ _ => False) ?_ ?_
  · intro ha hS P Y Wk hIc
    have h := hE hS (mokI (ha (mi a1) (by simp))) (mokI (ha (mi a2) (by simp))) (mokI (ha (mi a3) (by simp))) (mokI (ha (mi a4) (by simp)))
    clear hE ha
    refine y_iload 0 Y dX6_signed_0 rfl ?_
    refine y_if 2 14 Y dX6_signed_2 rfl rfl (fun c => ?_) (fun c => ?_)
    · replace h := h.1 c
      refine y_aload_n 14 Y dX6_signed_14 rfl ?_
      refine y_geta 15 Y 2 dX6_signed_15 rfl rfl ?_
      refine y_iload_n 18 Y dX6_signed_18 rfl ?_
      obtain ⟨o1, h⟩ := h
      obtain ⟨o2, h⟩ := h
      refine y_iald 19 Y dX6_signed_19 rfl rfl o1 o2 (fun _ => ?_)
      refine y_if 20 27 Y dX6_signed_20 rfl rfl (fun c => ?_) (fun c => ?_)
      · replace h := h.1 c
        refine y_iload_n 27 Y dX6_signed_27 rfl ?_
        exact y_iret 28 Y dX6_signed_28 rfl h
      · replace h := h.2 c
        refine y_iconst 23 Y dX6_signed_23 rfl ?_
        refine y_goto 24 28 Y dX6_signed_24 rfl rfl ?_
        exact y_iret 28 Y dX6_signed_28 rfl h
    · replace h := h.2 c
      refine y_aload_n 5 Y dX6_signed_5 rfl ?_
      refine y_geta 6 Y 2 dX6_signed_6 rfl rfl ?_
      refine y_iload_n 9 Y dX6_signed_9 rfl ?_
      obtain ⟨o3, h⟩ := h
      obtain ⟨o4, h⟩ := h
      refine y_iald 10 Y dX6_signed_10 rfl rfl o3 o4 (fun _ => ?_)
      refine y_if 11 29 Y dX6_signed_11 rfl rfl (fun c => ?_) (fun c => ?_)
      · replace h := h.1 c
        refine y_iload_n 29 Y dX6_signed_29 rfl ?_
        refine y_if 30 42 Y dX6_signed_30 rfl rfl (fun c => ?_) (fun c => ?_)
        · replace h := h.1 c
          refine y_aload_n 42 Y dX6_signed_42 rfl ?_
          refine y_iload_n 43 Y dX6_signed_43 rfl ?_
          refine y_iload_n 44 Y dX6_signed_44 rfl ?_
          refine y_call 45 Y (as := [mi a1, mi a3]) [] dX6_signed_45 rfl rfl rfl rfl rfl h (fun r S5 hq hI _ => ?_)
          obtain ⟨rfl, h⟩ := Qv_ok hq
          replace h := h hI
          clear hq
          refine y_iload 48 Y dX6_signed_48 rfl ?_
          exact y_iret 50 Y dX6_signed_50 rfl h
        · replace h := h.2 c
          refine y_aload_n 33 Y dX6_signed_33 rfl ?_
          refine y_geta 34 Y 2 dX6_signed_34 rfl rfl ?_
          refine y_iload_n 37 Y dX6_signed_37 rfl ?_
          obtain ⟨o6, h⟩ := h
          obtain ⟨o7, h⟩ := h
          refine y_iald 38 Y dX6_signed_38 rfl rfl o6 o7 (fun _ => ?_)
          refine y_if 39 51 Y dX6_signed_39 rfl rfl (fun c => ?_) (fun c => ?_)
          · replace h := h.1 c
            refine y_iload_n 51 Y dX6_signed_51 rfl ?_
            refine y_iload 52 Y dX6_signed_52 rfl ?_
            refine y_icmp 54 65 Y dX6_signed_54 rfl rfl (fun c => ?_) (fun c => ?_)
            · replace h := h.1 c
              refine y_aload_n 65 Y dX6_signed_65 rfl ?_
              refine y_iload_n 66 Y dX6_signed_66 rfl ?_
              refine y_iload_n 67 Y dX6_signed_67 rfl ?_
              refine y_call 68 Y (as := [mi a1, mi a3]) [] dX6_signed_68 rfl rfl rfl rfl rfl h (fun r S8 hq hI hr => ?_)
              obtain ⟨v9, rfl, h⟩ := Qi_ok hq
              replace h := h hI (mokI (hr _ rfl))
              clear hq hr
              refine y_istore 71 Y [some mt, some (mi a1), some (mi a2), some (mi a3), some (mi a4), some (mi v9)] dX6_signed_71 rfl rfl ?_
              refine y_iload 73 Y dX6_signed_73 rfl ?_
              refine y_if 75 95 Y dX6_signed_75 rfl rfl (fun c => ?_) (fun c => ?_)
              · replace h := h.1 c
                refine y_aload_n 95 Y dX6_signed_95 rfl ?_
                refine y_bipush 96 Y dX6_signed_96 rfl ?_
                refine y_iload_n 98 Y dX6_signed_98 rfl ?_
                refine y_call 99 Y (as := [mi 11, mi a3]) [] dX6_signed_99 rfl rfl rfl rfl rfl h (fun r S10 hq hI _ => ?_)
                obtain ⟨rfl, h⟩ := Qv_ok hq
                replace h := h hI
                clear hq
                refine y_aload_n 102 Y dX6_signed_102 rfl ?_
                refine y_bipush 103 Y dX6_signed_103 rfl ?_
                refine y_iload_n 105 Y dX6_signed_105 rfl ?_
                refine y_call 106 Y (as := [mi 11, mi a1]) [] dX6_signed_106 rfl rfl rfl rfl rfl h (fun r S11 hq hI _ => ?_)
                obtain ⟨rfl, h⟩ := Qv_ok hq
                replace h := h hI
                clear hq
                refine y_aload_n 109 Y dX6_signed_109 rfl ?_
                refine y_iload_n 110 Y dX6_signed_110 rfl ?_
                refine y_bipush 111 Y dX6_signed_111 rfl ?_
                refine y_call 113 Y (as := [mi a1, mi 11]) [] dX6_signed_113 rfl rfl rfl rfl rfl h (fun r S12 hq hI _ => ?_)
                obtain ⟨rfl, h⟩ := Qv_ok hq
                replace h := h hI
                clear hq
                refine y_iload 116 Y dX6_signed_116 rfl ?_
                exact y_iret 118 Y dX6_signed_118 rfl h
              · replace h := h.2 c
                refine y_aload_n 78 Y dX6_signed_78 rfl ?_
                refine y_iload_n 79 Y dX6_signed_79 rfl ?_
                refine y_iload_n 80 Y dX6_signed_80 rfl ?_
                refine y_call 81 Y (as := [mi a1, mi a3]) [] dX6_signed_81 rfl rfl rfl rfl rfl h (fun r S13 hq hI _ => ?_)
                obtain ⟨rfl, h⟩ := Qv_ok hq
                replace h := h hI
                clear hq
                refine y_iload 84 Y dX6_signed_84 rfl ?_
                refine y_if 86 93 Y dX6_signed_86 rfl rfl (fun c => ?_) (fun c => ?_)
                · replace h := h.1 c
                  refine y_iload_n 93 Y dX6_signed_93 rfl ?_
                  exact y_iret 94 Y dX6_signed_94 rfl h
                · replace h := h.2 c
                  refine y_iconst 89 Y dX6_signed_89 rfl ?_
                  refine y_goto 90 94 Y dX6_signed_90 rfl rfl ?_
                  exact y_iret 94 Y dX6_signed_94 rfl h
            · replace h := h.2 c
              refine y_aload_n 57 Y dX6_signed_57 rfl ?_
              refine y_iload_n 58 Y dX6_signed_58 rfl ?_
              refine y_iload_n 59 Y dX6_signed_59 rfl ?_
              refine y_call 60 Y (as := [mi a1, mi a3]) [] dX6_signed_60 rfl rfl rfl rfl rfl h (fun r S14 hq hI _ => ?_)
              obtain ⟨rfl, h⟩ := Qv_ok hq
              replace h := h hI
              clear hq
              refine y_iload_n 63 Y dX6_signed_63 rfl ?_
              exact y_iret 64 Y dX6_signed_64 rfl h
          · replace h := h.2 c
            refine y_aload_n 42 Y dX6_signed_42 rfl ?_
            refine y_iload_n 43 Y dX6_signed_43 rfl ?_
            refine y_iload_n 44 Y dX6_signed_44 rfl ?_
            refine y_call 45 Y (as := [mi a1, mi a3]) [] dX6_signed_45 rfl rfl rfl rfl rfl h (fun r S15 hq hI _ => ?_)
            obtain ⟨rfl, h⟩ := Qv_ok hq
            replace h := h hI
            clear hq
            refine y_iload 48 Y dX6_signed_48 rfl ?_
            exact y_iret 50 Y dX6_signed_50 rfl h
      · replace h := h.2 c
        refine y_aload_n 14 Y dX6_signed_14 rfl ?_
        refine y_geta 15 Y 2 dX6_signed_15 rfl rfl ?_
        refine y_iload_n 18 Y dX6_signed_18 rfl ?_
        obtain ⟨o16, h⟩ := h
        obtain ⟨o17, h⟩ := h
        refine y_iald 19 Y dX6_signed_19 rfl rfl o16 o17 (fun _ => ?_)
        refine y_if 20 27 Y dX6_signed_20 rfl rfl (fun c => ?_) (fun c => ?_)
        · replace h := h.1 c
          refine y_iload_n 27 Y dX6_signed_27 rfl ?_
          exact y_iret 28 Y dX6_signed_28 rfl h
        · replace h := h.2 c
          refine y_iconst 23 Y dX6_signed_23 rfl ?_
          refine y_goto 24 28 Y dX6_signed_24 rfl rfl ?_
          exact y_iret 28 Y dX6_signed_28 rfl h
  · intro n pc L st T hi
    exact hi.elim
set_option maxHeartbeats 4000000 in
theorem of_tasksOf {g : mG} {S : mS} {a1 : Int} {Qp : Option mV → mS → Prop} (I76 : Nat → Int → Int → mS → Prop)
    (hE : mI S → (-2147483648 ≤ a1 ∧ a1 ≤ 2147483647) → (0 ≤ a1) ∧ (a1 < 20300) ∧ ((S 4 a1) = 0 → CX_task g [mt, mi 0, mi (S 5 a1)] S (Qv fun S3 => mI S3 → Qp none S3)) ∧ ((S 4 a1) = 1 → CX_task g [mt, mi 1, mi (S 5 a1)] S (Qv fun S4 => mI S4 → Qp none S4)) ∧ ((S 4 a1) = 2 → CX_task g [mt, mi 4, mi 41] S (Qv fun S5 => mI S5 → (-2147483648 ≤ (((S5 7 a1) - 1) : Int) ∧ ((S5 7 a1) - 1) ≤ 2147483647) ∧ (∃ n1, I76 n1 a1 ((S5 7 a1) - 1) S5))) ∧ ((S 4 a1) < 0 ∨ 2 < (S 4 a1) → (((S 6 a1) ≠ 2) → (((S 6 a1) ≠ 0) → CX_task g [mt, mi 2, mi (S 5 a1)] S (Qv fun S7 => mI S7 → (-2147483648 ≤ ((a1 + 1) : Int) ∧ (a1 + 1) ≤ 2147483647) ∧ CX_operandTask g [mt, mi (a1 + 1)] S7 (Qv fun S9 => mI S9 → Qp none S9))) ∧ (¬ ((S 6 a1) ≠ 0) → (-2147483648 ≤ ((a1 + 1) : Int) ∧ (a1 + 1) ≤ 2147483647) ∧ CX_operandTask g [mt, mi (a1 + 1)] S (Qv fun S11 => mI S11 → CX_task g [mt, mi 2, mi (S11 5 a1)] S11 (Qv fun S12 => mI S12 → Qp none S12)))) ∧ (¬ ((S 6 a1) ≠ 2) → CX_child g [mt, mi a1, mi 1] S (Qi fun v14 S13 => mI S13 → (-2147483648 ≤ v14 ∧ v14 ≤ 2147483647) → CX_operandTask g [mt, mi v14] S13 (Qv fun S15 => mI S15 → CX_task g [mt, mi 2, mi (S15 5 a1)] S15 (Qv fun S16 => mI S16 → (-2147483648 ≤ ((a1 + 1) : Int) ∧ (a1 + 1) ≤ 2147483647) ∧ CX_operandTask g [mt, mi (a1 + 1)] S16 (Qv fun S18 => mI S18 → Qp none S18)))))))
    (h76 : ∀ (n : Nat) (l1 l2 : Int) (T : mS), mI T → (-2147483648 ≤ l1 ∧ l1 ≤ 2147483647) → (-2147483648 ≤ l2 ∧ l2 ≤ 2147483647) → I76 n l1 l2 T → ((l2 < 0) → (0 ≤ l1) ∧ (l1 < 20300) ∧ CX_task g [mt, mi 1, mi (T 5 l1)] T (Qv fun S3 => mI S3 → Qp none S3)) ∧ (¬ (l2 < 0) → CX_child g [mt, mi l1, mi l2] T (Qi fun v5 S4 => mI S4 → (-2147483648 ≤ v5 ∧ v5 ≤ 2147483647) → CX_task g [mt, mi 10, mi v5] S4 (Qv fun S6 => mI S6 → ((l2 ≤ 0) → ((l2 ≤ 0) → CX_task g [mt, mi 3, mi 40] S6 (Qv fun S7 => mI S7 → (-2147483648 ≤ ((l2 + (-1)) : Int) ∧ (l2 + (-1)) ≤ 2147483647) ∧ (∃ n1, n1 < n ∧ I76 n1 l1 (l2 + (-1)) S7))) ∧ (¬ (l2 ≤ 0) → CX_task g [mt, mi 3, mi 44] S6 (Qv fun S9 => mI S9 → (-2147483648 ≤ ((l2 + (-1)) : Int) ∧ (l2 + (-1)) ≤ 2147483647) ∧ (∃ n1, n1 < n ∧ I76 n1 l1 (l2 + (-1)) S9)))) ∧ (¬ (l2 ≤ 0) → ((l2 ≤ 0) → CX_task g [mt, mi 5, mi 40] S6 (Qv fun S11 => mI S11 → (-2147483648 ≤ ((l2 + (-1)) : Int) ∧ (l2 + (-1)) ≤ 2147483647) ∧ (∃ n1, n1 < n ∧ I76 n1 l1 (l2 + (-1)) S11))) ∧ (¬ (l2 ≤ 0) → CX_task g [mt, mi 5, mi 44] S6 (Qv fun S13 => mI S13 → (-2147483648 ≤ ((l2 + (-1)) : Int) ∧ (l2 + (-1)) ≤ 2147483647) ∧ (∃ n1, n1 < n ∧ I76 n1 l1 (l2 + (-1)) S13))))))))
    : CX_tasksOf g [mt, mi a1] S Qp := by
  refine cm_y ⟨by decide, rfl⟩ (by simp [mcat]) (by simp) (fun n pc L st S => (pc = 76 ∧ ∃ (l1 : Int) (l2 : Int), L = [some mt, some (mi l1), some (mi l2)] ∧ st = [] ∧ I76 n l1 l2 S)) ?_ ?_
  · intro ha hS P Y Wk hIc
    have h := hE hS (mokI (ha (mi a1) (by simp)))
    clear hE ha h76
    refine y_aload_n 0 Y dX6_tasksOf_0 rfl ?_
    refine y_geta 1 Y 4 dX6_tasksOf_1 rfl rfl ?_
    refine y_iload_n 4 Y dX6_tasksOf_4 rfl ?_
    obtain ⟨o1, h⟩ := h
    obtain ⟨o2, h⟩ := h
    refine y_iald 5 Y dX6_tasksOf_5 rfl rfl o1 o2 (fun _ => ?_)
    refine y_table 6 Y dX6_tasksOf_6 rfl (And.intro (fun c => ?_) (And.intro (fun c => ?_) (And.intro (fun c => ?_) trivial))) (fun c => ?_)
    · replace h := h.1 c
      refine y_aload_n 32 Y dX6_tasksOf_32 rfl ?_
      refine y_iconst 33 Y dX6_tasksOf_33 rfl ?_
      refine y_aload_n 34 Y dX6_tasksOf_34 rfl ?_
      refine y_geta 35 Y 5 dX6_tasksOf_35 rfl rfl ?_
      refine y_iload_n 38 Y dX6_tasksOf_38 rfl ?_
      refine y_iald 39 Y dX6_tasksOf_39 rfl rfl o1 o2 (fun _ => ?_)
      refine y_call 40 Y (as := [mi 0, mi (S 5 a1)]) [] dX6_tasksOf_40 rfl rfl rfl rfl rfl h (fun r S3 hq hI _ => ?_)
      obtain ⟨rfl, h⟩ := Qv_ok hq
      replace h := h hI
      clear hq
      refine y_goto 43 225 Y dX6_tasksOf_43 rfl rfl ?_
      exact y_ret 225 Y dX6_tasksOf_225 rfl h
    · replace h := h.2.1 c
      refine y_aload_n 46 Y dX6_tasksOf_46 rfl ?_
      refine y_iconst 47 Y dX6_tasksOf_47 rfl ?_
      refine y_aload_n 48 Y dX6_tasksOf_48 rfl ?_
      refine y_geta 49 Y 5 dX6_tasksOf_49 rfl rfl ?_
      refine y_iload_n 52 Y dX6_tasksOf_52 rfl ?_
      refine y_iald 53 Y dX6_tasksOf_53 rfl rfl o1 o2 (fun _ => ?_)
      refine y_call 54 Y (as := [mi 1, mi (S 5 a1)]) [] dX6_tasksOf_54 rfl rfl rfl rfl rfl h (fun r S4 hq hI _ => ?_)
      obtain ⟨rfl, h⟩ := Qv_ok hq
      replace h := h hI
      clear hq
      refine y_goto 57 225 Y dX6_tasksOf_57 rfl rfl ?_
      exact y_ret 225 Y dX6_tasksOf_225 rfl h
    · replace h := h.2.2.1 c
      refine y_aload_n 60 Y dX6_tasksOf_60 rfl ?_
      refine y_iconst 61 Y dX6_tasksOf_61 rfl ?_
      refine y_bipush 62 Y dX6_tasksOf_62 rfl ?_
      refine y_call 64 Y (as := [mi 4, mi 41]) [] dX6_tasksOf_64 rfl rfl rfl rfl rfl h (fun r S5 hq hI _ => ?_)
      obtain ⟨rfl, h⟩ := Qv_ok hq
      replace h := h hI
      clear hq
      refine y_aload_n 67 Y dX6_tasksOf_67 rfl ?_
      refine y_geta 68 Y 7 dX6_tasksOf_68 rfl rfl ?_
      refine y_iload_n 71 Y dX6_tasksOf_71 rfl ?_
      refine y_iald 72 Y dX6_tasksOf_72 rfl rfl o1 o2 (fun _ => ?_)
      refine y_iconst 73 Y dX6_tasksOf_73 rfl ?_
      obtain ⟨o6, h⟩ := h
      refine y_isub 74 Y dX6_tasksOf_74 o6 ?_
      refine y_istore_n 75 Y [some mt, some (mi a1), some (mi ((S5 7 a1) - 1))] dX6_tasksOf_75 rfl rfl ?_
      obtain ⟨n1, h⟩ := h
      exact Wk 76 _ [some mt, some (mi a1), some (mi ((S5 7 a1) - 1))] _ _ ⟨rfl, ⟨rfl, ⟨rfl, trivial⟩⟩⟩ (hIc n1 _ _ _ _ ((⟨rfl, _, _, rfl, rfl, h⟩)))
    · replace h := h.2.2.2 c
      refine y_aload_n 136 Y dX6_tasksOf_136 rfl ?_
      refine y_geta 137 Y 6 dX6_tasksOf_137 rfl rfl ?_
      refine y_iload_n 140 Y dX6_tasksOf_140 rfl ?_
      refine y_iald 141 Y dX6_tasksOf_141 rfl rfl o1 o2 (fun _ => ?_)
      refine y_iconst 142 Y dX6_tasksOf_142 rfl ?_
      refine y_icmp 143 177 Y dX6_tasksOf_143 rfl rfl (fun c => ?_) (fun c => ?_)
      · replace h := h.1 c
        refine y_aload_n 177 Y dX6_tasksOf_177 rfl ?_
        refine y_geta 178 Y 6 dX6_tasksOf_178 rfl rfl ?_
        refine y_iload_n 181 Y dX6_tasksOf_181 rfl ?_
        refine y_iald 182 Y dX6_tasksOf_182 rfl rfl o1 o2 (fun _ => ?_)
        refine y_if 183 207 Y dX6_tasksOf_183 rfl rfl (fun c => ?_) (fun c => ?_)
        · replace h := h.1 c
          refine y_aload_n 207 Y dX6_tasksOf_207 rfl ?_
          refine y_iconst 208 Y dX6_tasksOf_208 rfl ?_
          refine y_aload_n 209 Y dX6_tasksOf_209 rfl ?_
          refine y_geta 210 Y 5 dX6_tasksOf_210 rfl rfl ?_
          refine y_iload_n 213 Y dX6_tasksOf_213 rfl ?_
          refine y_iald 214 Y dX6_tasksOf_214 rfl rfl o1 o2 (fun _ => ?_)
          refine y_call 215 Y (as := [mi 2, mi (S 5 a1)]) [] dX6_tasksOf_215 rfl rfl rfl rfl rfl h (fun r S7 hq hI _ => ?_)
          obtain ⟨rfl, h⟩ := Qv_ok hq
          replace h := h hI
          clear hq
          refine y_aload_n 218 Y dX6_tasksOf_218 rfl ?_
          refine y_iload_n 219 Y dX6_tasksOf_219 rfl ?_
          refine y_iconst 220 Y dX6_tasksOf_220 rfl ?_
          obtain ⟨o8, h⟩ := h
          refine y_iadd 221 Y dX6_tasksOf_221 o8 ?_
          refine y_call 222 Y (as := [mi (a1 + 1)]) [] dX6_tasksOf_222 rfl rfl rfl rfl rfl h (fun r S9 hq hI _ => ?_)
          obtain ⟨rfl, h⟩ := Qv_ok hq
          replace h := h hI
          clear hq
          exact y_ret 225 Y dX6_tasksOf_225 rfl h
        · replace h := h.2 c
          refine y_aload_n 186 Y dX6_tasksOf_186 rfl ?_
          refine y_iload_n 187 Y dX6_tasksOf_187 rfl ?_
          refine y_iconst 188 Y dX6_tasksOf_188 rfl ?_
          obtain ⟨o10, h⟩ := h
          refine y_iadd 189 Y dX6_tasksOf_189 o10 ?_
          refine y_call 190 Y (as := [mi (a1 + 1)]) [] dX6_tasksOf_190 rfl rfl rfl rfl rfl h (fun r S11 hq hI _ => ?_)
          obtain ⟨rfl, h⟩ := Qv_ok hq
          replace h := h hI
          clear hq
          refine y_aload_n 193 Y dX6_tasksOf_193 rfl ?_
          refine y_iconst 194 Y dX6_tasksOf_194 rfl ?_
          refine y_aload_n 195 Y dX6_tasksOf_195 rfl ?_
          refine y_geta 196 Y 5 dX6_tasksOf_196 rfl rfl ?_
          refine y_iload_n 199 Y dX6_tasksOf_199 rfl ?_
          refine y_iald 200 Y dX6_tasksOf_200 rfl rfl o1 o2 (fun _ => ?_)
          refine y_call 201 Y (as := [mi 2, mi (S11 5 a1)]) [] dX6_tasksOf_201 rfl rfl rfl rfl rfl h (fun r S12 hq hI _ => ?_)
          obtain ⟨rfl, h⟩ := Qv_ok hq
          replace h := h hI
          clear hq
          refine y_goto 204 225 Y dX6_tasksOf_204 rfl rfl ?_
          exact y_ret 225 Y dX6_tasksOf_225 rfl h
      · replace h := h.2 c
        refine y_aload_n 146 Y dX6_tasksOf_146 rfl ?_
        refine y_aload_n 147 Y dX6_tasksOf_147 rfl ?_
        refine y_iload_n 148 Y dX6_tasksOf_148 rfl ?_
        refine y_iconst 149 Y dX6_tasksOf_149 rfl ?_
        refine y_call 150 Y (as := [mi a1, mi 1]) [mt] dX6_tasksOf_150 rfl rfl rfl rfl rfl h (fun r S13 hq hI hr => ?_)
        obtain ⟨v14, rfl, h⟩ := Qi_ok hq
        replace h := h hI (mokI (hr _ rfl))
        clear hq hr
        refine y_call 153 Y (as := [mi v14]) [] dX6_tasksOf_153 rfl rfl rfl rfl rfl h (fun r S15 hq hI _ => ?_)
        obtain ⟨rfl, h⟩ := Qv_ok hq
        replace h := h hI
        clear hq
        refine y_aload_n 156 Y dX6_tasksOf_156 rfl ?_
        refine y_iconst 157 Y dX6_tasksOf_157 rfl ?_
        refine y_aload_n 158 Y dX6_tasksOf_158 rfl ?_
        refine y_geta 159 Y 5 dX6_tasksOf_159 rfl rfl ?_
        refine y_iload_n 162 Y dX6_tasksOf_162 rfl ?_
        refine y_iald 163 Y dX6_tasksOf_163 rfl rfl o1 o2 (fun _ => ?_)
        refine y_call 164 Y (as := [mi 2, mi (S15 5 a1)]) [] dX6_tasksOf_164 rfl rfl rfl rfl rfl h (fun r S16 hq hI _ => ?_)
        obtain ⟨rfl, h⟩ := Qv_ok hq
        replace h := h hI
        clear hq
        refine y_aload_n 167 Y dX6_tasksOf_167 rfl ?_
        refine y_iload_n 168 Y dX6_tasksOf_168 rfl ?_
        refine y_iconst 169 Y dX6_tasksOf_169 rfl ?_
        obtain ⟨o17, h⟩ := h
        refine y_iadd 170 Y dX6_tasksOf_170 o17 ?_
        refine y_call 171 Y (as := [mi (a1 + 1)]) [] dX6_tasksOf_171 rfl rfl rfl rfl rfl h (fun r S18 hq hI _ => ?_)
        obtain ⟨rfl, h⟩ := Qv_ok hq
        replace h := h hI
        clear hq
        refine y_goto 174 225 Y dX6_tasksOf_174 rfl rfl ?_
        exact y_ret 225 Y dX6_tasksOf_225 rfl h
  · intro n pc L st T hi hS hL P Y Wk hIc
    clear hE
    rcases hi with ⟨rfl, l1, l2, rfl, rfl, hi⟩
    · have h := h76 n l1 l2 T hS (hL 1 _ rfl) (hL 2 _ rfl) hi
      clear hL hi h76
      refine y_iload_n 76 Y dX6_tasksOf_76 rfl ?_
      refine y_if 77 122 Y dX6_tasksOf_77 rfl rfl (fun c => ?_) (fun c => ?_)
      · replace h := h.1 c
        refine y_aload_n 122 Y dX6_tasksOf_122 rfl ?_
        refine y_iconst 123 Y dX6_tasksOf_123 rfl ?_
        refine y_aload_n 124 Y dX6_tasksOf_124 rfl ?_
        refine y_geta 125 Y 5 dX6_tasksOf_125 rfl rfl ?_
        refine y_iload_n 128 Y dX6_tasksOf_128 rfl ?_
        obtain ⟨o1, h⟩ := h
        obtain ⟨o2, h⟩ := h
        refine y_iald 129 Y dX6_tasksOf_129 rfl rfl o1 o2 (fun _ => ?_)
        refine y_call 130 Y (as := [mi 1, mi (T 5 l1)]) [] dX6_tasksOf_130 rfl rfl rfl rfl rfl h (fun r S3 hq hI _ => ?_)
        obtain ⟨rfl, h⟩ := Qv_ok hq
        replace h := h hI
        clear hq
        refine y_goto 133 225 Y dX6_tasksOf_133 rfl rfl ?_
        exact y_ret 225 Y dX6_tasksOf_225 rfl h
      · replace h := h.2 c
        refine y_aload_n 80 Y dX6_tasksOf_80 rfl ?_
        refine y_bipush 81 Y dX6_tasksOf_81 rfl ?_
        refine y_aload_n 83 Y dX6_tasksOf_83 rfl ?_
        refine y_iload_n 84 Y dX6_tasksOf_84 rfl ?_
        refine y_iload_n 85 Y dX6_tasksOf_85 rfl ?_
        refine y_call 86 Y (as := [mi l1, mi l2]) [mi 10, mt] dX6_tasksOf_86 rfl rfl rfl rfl rfl h (fun r S4 hq hI hr => ?_)
        obtain ⟨v5, rfl, h⟩ := Qi_ok hq
        replace h := h hI (mokI (hr _ rfl))
        clear hq hr
        refine y_call 89 Y (as := [mi 10, mi v5]) [] dX6_tasksOf_89 rfl rfl rfl rfl rfl h (fun r S6 hq hI _ => ?_)
        obtain ⟨rfl, h⟩ := Qv_ok hq
        replace h := h hI
        clear hq
        refine y_aload_n 92 Y dX6_tasksOf_92 rfl ?_
        refine y_iload_n 93 Y dX6_tasksOf_93 rfl ?_
        refine y_if 94 101 Y dX6_tasksOf_94 rfl rfl (fun c => ?_) (fun c => ?_)
        · replace h := h.1 c
          refine y_iconst 101 Y dX6_tasksOf_101 rfl ?_
          refine y_iload_n 102 Y dX6_tasksOf_102 rfl ?_
          refine y_if 103 111 Y dX6_tasksOf_103 rfl rfl (fun c => ?_) (fun c => ?_)
          · replace h := h.1 c
            refine y_bipush 111 Y dX6_tasksOf_111 rfl ?_
            refine y_call 113 Y (as := [mi 3, mi 40]) [] dX6_tasksOf_113 rfl rfl rfl rfl rfl h (fun r S7 hq hI _ => ?_)
            obtain ⟨rfl, h⟩ := Qv_ok hq
            replace h := h hI
            clear hq
            obtain ⟨o8, h⟩ := h
            refine y_iinc 116 Y [some mt, some (mi l1), some (mi (l2 + (-1)))] dX6_tasksOf_116 rfl rfl o8 ?_
            refine y_goto 119 76 Y dX6_tasksOf_119 rfl rfl ?_
            obtain ⟨n1, hn, h⟩ := h
            exact Wk 76 _ [some mt, some (mi l1), some (mi (l2 + (-1)))] _ _ ⟨rfl, ⟨rfl, ⟨rfl, trivial⟩⟩⟩ (hIc n1 _ _ _ _ hn ((⟨rfl, _, _, rfl, rfl, h⟩)))
          · replace h := h.2 c
            refine y_bipush 106 Y dX6_tasksOf_106 rfl ?_
            refine y_goto 108 113 Y dX6_tasksOf_108 rfl rfl ?_
            refine y_call 113 Y (as := [mi 3, mi 44]) [] dX6_tasksOf_113 rfl rfl rfl rfl rfl h (fun r S9 hq hI _ => ?_)
            obtain ⟨rfl, h⟩ := Qv_ok hq
            replace h := h hI
            clear hq
            obtain ⟨o10, h⟩ := h
            refine y_iinc 116 Y [some mt, some (mi l1), some (mi (l2 + (-1)))] dX6_tasksOf_116 rfl rfl o10 ?_
            refine y_goto 119 76 Y dX6_tasksOf_119 rfl rfl ?_
            obtain ⟨n1, hn, h⟩ := h
            exact Wk 76 _ [some mt, some (mi l1), some (mi (l2 + (-1)))] _ _ ⟨rfl, ⟨rfl, ⟨rfl, trivial⟩⟩⟩ (hIc n1 _ _ _ _ hn ((⟨rfl, _, _, rfl, rfl, h⟩)))
        · replace h := h.2 c
          refine y_iconst 97 Y dX6_tasksOf_97 rfl ?_
          refine y_goto 98 102 Y dX6_tasksOf_98 rfl rfl ?_
          refine y_iload_n 102 Y dX6_tasksOf_102 rfl ?_
          refine y_if 103 111 Y dX6_tasksOf_103 rfl rfl (fun c => ?_) (fun c => ?_)
          · replace h := h.1 c
            refine y_bipush 111 Y dX6_tasksOf_111 rfl ?_
            refine y_call 113 Y (as := [mi 5, mi 40]) [] dX6_tasksOf_113 rfl rfl rfl rfl rfl h (fun r S11 hq hI _ => ?_)
            obtain ⟨rfl, h⟩ := Qv_ok hq
            replace h := h hI
            clear hq
            obtain ⟨o12, h⟩ := h
            refine y_iinc 116 Y [some mt, some (mi l1), some (mi (l2 + (-1)))] dX6_tasksOf_116 rfl rfl o12 ?_
            refine y_goto 119 76 Y dX6_tasksOf_119 rfl rfl ?_
            obtain ⟨n1, hn, h⟩ := h
            exact Wk 76 _ [some mt, some (mi l1), some (mi (l2 + (-1)))] _ _ ⟨rfl, ⟨rfl, ⟨rfl, trivial⟩⟩⟩ (hIc n1 _ _ _ _ hn ((⟨rfl, _, _, rfl, rfl, h⟩)))
          · replace h := h.2 c
            refine y_bipush 106 Y dX6_tasksOf_106 rfl ?_
            refine y_goto 108 113 Y dX6_tasksOf_108 rfl rfl ?_
            refine y_call 113 Y (as := [mi 5, mi 44]) [] dX6_tasksOf_113 rfl rfl rfl rfl rfl h (fun r S13 hq hI _ => ?_)
            obtain ⟨rfl, h⟩ := Qv_ok hq
            replace h := h hI
            clear hq
            obtain ⟨o14, h⟩ := h
            refine y_iinc 116 Y [some mt, some (mi l1), some (mi (l2 + (-1)))] dX6_tasksOf_116 rfl rfl o14 ?_
            refine y_goto 119 76 Y dX6_tasksOf_119 rfl rfl ?_
            obtain ⟨n1, hn, h⟩ := h
            exact Wk 76 _ [some mt, some (mi l1), some (mi (l2 + (-1)))] _ _ ⟨rfl, ⟨rfl, ⟨rfl, trivial⟩⟩⟩ (hIc n1 _ _ _ _ hn ((⟨rfl, _, _, rfl, rfl, h⟩)))
set_option maxHeartbeats 4000000 in
theorem of_tell {g : mG} {S : mS} {a1 a2 a3 a4 a5 : Int} {Qp : Option mV → mS → Prop} (I63 : Nat → Int → Int → Int → Int → Int → mS → Prop) (I66 : Nat → Int → Int → Int → Int → Int → Int → mS → Prop) (I115 : Nat → Int → Int → Int → Int → Int → Int → mS → Prop) (I119 : Nat → Int → Int → Int → Int → Int → Int → mS → Prop) (I122 : Nat → Int → Int → Int → Int → Int → Int → Int → mS → Prop)
    (hE : mI S → (-2147483648 ≤ a1 ∧ a1 ≤ 2147483647) → (-2147483648 ≤ a2 ∧ a2 ≤ 2147483647) → (-2147483648 ≤ a3 ∧ a3 ≤ 2147483647) → (-2147483648 ≤ a4 ∧ a4 ≤ 2147483647) → (-2147483648 ≤ a5 ∧ a5 ≤ 2147483647) → CX_signOf g [mi a1] S (Qi fun v2 S1 => mI S1 → (-2147483648 ≤ v2 ∧ v2 ≤ 2147483647) → ((v2 = (-1)) → (∃ n1, I63 n1 a2 a3 a4 a5 v2 S1)) ∧ (¬ (v2 = (-1)) → CX_in g [mi a2, mi 0, mi 2] S1 (Qi fun v4 S3 => mI S3 → (-2147483648 ≤ v4 ∧ v4 ≤ 2147483647) → ((v4 = 0) → (∃ n1, I63 n1 a2 a3 a4 a5 v2 S3)) ∧ (¬ (v4 = 0) → CX_in g [mi a3, mi 1, mi 9] S3 (Qi fun v6 S5 => mI S5 → (-2147483648 ≤ v6 ∧ v6 ≤ 2147483647) → ((v6 = 0) → (∃ n1, I63 n1 a2 a3 a4 a5 v2 S5)) ∧ (¬ (v6 = 0) → ((a2 ≠ 2) → CX_in g [mi a4, mi 0, mi 0] S5 (Qi fun v8 S7 => mI S7 → (-2147483648 ≤ v8 ∧ v8 ≤ 2147483647) → ((v8 = 0) → (∃ n1, I63 n1 a2 a3 a4 a5 v2 S7)) ∧ (¬ (v8 = 0) → CX_isMeaning g [mi a2, mi a5] S7 (Qi fun v10 S9 => mI S9 → (-2147483648 ≤ v10 ∧ v10 ≤ 2147483647) → ((v10 = 0) → (∃ n1, I63 n1 a2 a3 a4 a5 v2 S9)) ∧ (¬ (v10 = 0) → (∃ n1, I66 n1 a2 a3 a4 a5 v2 1 S9)))))) ∧ (¬ (a2 ≠ 2) → CX_in g [mi a4, mi 0, mi 2] S5 (Qi fun v12 S11 => mI S11 → (-2147483648 ≤ v12 ∧ v12 ≤ 2147483647) → ((v12 = 0) → (∃ n1, I63 n1 a2 a3 a4 a5 v2 S11)) ∧ (¬ (v12 = 0) → CX_isMeaning g [mi a2, mi a5] S11 (Qi fun v14 S13 => mI S13 → (-2147483648 ≤ v14 ∧ v14 ≤ 2147483647) → ((v14 = 0) → (∃ n1, I63 n1 a2 a3 a4 a5 v2 S13)) ∧ (¬ (v14 = 0) → (∃ n1, I66 n1 a2 a3 a4 a5 v2 1 S13)))))))))))))
    (h63 : ∀ (n : Nat) (l2 l3 l4 l5 l6 : Int) (T : mS), mI T → (-2147483648 ≤ l2 ∧ l2 ≤ 2147483647) → (-2147483648 ≤ l3 ∧ l3 ≤ 2147483647) → (-2147483648 ≤ l4 ∧ l4 ≤ 2147483647) → (-2147483648 ≤ l5 ∧ l5 ≤ 2147483647) → (-2147483648 ≤ l6 ∧ l6 ≤ 2147483647) → I63 n l2 l3 l4 l5 l6 T → (∃ n1, n1 < n ∧ I66 n1 l2 l3 l4 l5 l6 0 T))
    (h66 : ∀ (n : Nat) (l2 l3 l4 l5 l6 l7 : Int) (T : mS), mI T → (-2147483648 ≤ l2 ∧ l2 ≤ 2147483647) → (-2147483648 ≤ l3 ∧ l3 ≤ 2147483647) → (-2147483648 ≤ l4 ∧ l4 ≤ 2147483647) → (-2147483648 ≤ l5 ∧ l5 ≤ 2147483647) → (-2147483648 ≤ l6 ∧ l6 ≤ 2147483647) → (-2147483648 ≤ l7 ∧ l7 ≤ 2147483647) → I66 n l2 l3 l4 l5 l6 l7 T → ((l7 = 0) → (∃ n1, n1 < n ∧ I119 n1 l2 l3 l4 l5 l6 l7 T)) ∧ (¬ (l7 = 0) → ((l2 = 0) → (∃ n1, n1 < n ∧ I119 n1 l2 l3 l4 l5 l6 l7 T)) ∧ (¬ (l2 = 0) → (-2147483648 ≤ ((3 * l6) : Int) ∧ (3 * l6) ≤ 2147483647) ∧ ((l2 ≠ 2) → (-2147483648 ≤ (((3 * l6) + 2) : Int) ∧ ((3 * l6) + 2) ≤ 2147483647) ∧ (0 ≤ ((3 * l6) + 2)) ∧ (((3 * l6) + 2) < 48) ∧ ((0 < (T 15 ((3 * l6) + 2))) → (∃ n1, n1 < n ∧ I115 n1 l2 l3 l4 l5 l6 l7 T)) ∧ (¬ (0 < (T 15 ((3 * l6) + 2))) → ((l2 ≠ 2) → (∃ n1, n1 < n ∧ I119 n1 l2 l3 l4 l5 l6 l7 T)) ∧ (¬ (l2 ≠ 2) → CX_isOther g [mt, mi l6, mi l3, mi l4] T (Qi fun v6 S5 => mI S5 → (-2147483648 ≤ v6 ∧ v6 ≤ 2147483647) → ((v6 = 0) → (∃ n1, n1 < n ∧ I119 n1 l2 l3 l4 l5 l6 l7 S5)) ∧ (¬ (v6 = 0) → (∃ n1, n1 < n ∧ I115 n1 l2 l3 l4 l5 l6 l7 S5)))))) ∧ (¬ (l2 ≠ 2) → (-2147483648 ≤ (((3 * l6) + 1) : Int) ∧ ((3 * l6) + 1) ≤ 2147483647) ∧ (0 ≤ ((3 * l6) + 1)) ∧ (((3 * l6) + 1) < 48) ∧ ((0 < (T 15 ((3 * l6) + 1))) → (∃ n1, n1 < n ∧ I115 n1 l2 l3 l4 l5 l6 l7 T)) ∧ (¬ (0 < (T 15 ((3 * l6) + 1))) → ((l2 ≠ 2) → (∃ n1, n1 < n ∧ I119 n1 l2 l3 l4 l5 l6 l7 T)) ∧ (¬ (l2 ≠ 2) → CX_isOther g [mt, mi l6, mi l3, mi l4] T (Qi fun v11 S10 => mI S10 → (-2147483648 ≤ v11 ∧ v11 ≤ 2147483647) → ((v11 = 0) → (∃ n1, n1 < n ∧ I119 n1 l2 l3 l4 l5 l6 l7 S10)) ∧ (¬ (v11 = 0) → (∃ n1, n1 < n ∧ I115 n1 l2 l3 l4 l5 l6 l7 S10)))))))))
    (h115 : ∀ (n : Nat) (l2 l3 l4 l5 l6 l7 : Int) (T : mS), mI T → (-2147483648 ≤ l2 ∧ l2 ≤ 2147483647) → (-2147483648 ≤ l3 ∧ l3 ≤ 2147483647) → (-2147483648 ≤ l4 ∧ l4 ≤ 2147483647) → (-2147483648 ≤ l5 ∧ l5 ≤ 2147483647) → (-2147483648 ≤ l6 ∧ l6 ≤ 2147483647) → (-2147483648 ≤ l7 ∧ l7 ≤ 2147483647) → I115 n l2 l3 l4 l5 l6 l7 T → (∃ n1, n1 < n ∧ I122 n1 l2 l3 l4 l5 l6 l7 1 T))
    (h119 : ∀ (n : Nat) (l2 l3 l4 l5 l6 l7 : Int) (T : mS), mI T → (-2147483648 ≤ l2 ∧ l2 ≤ 2147483647) → (-2147483648 ≤ l3 ∧ l3 ≤ 2147483647) → (-2147483648 ≤ l4 ∧ l4 ≤ 2147483647) → (-2147483648 ≤ l5 ∧ l5 ≤ 2147483647) → (-2147483648 ≤ l6 ∧ l6 ≤ 2147483647) → (-2147483648 ≤ l7 ∧ l7 ≤ 2147483647) → I119 n l2 l3 l4 l5 l6 l7 T → (∃ n1, n1 < n ∧ I122 n1 l2 l3 l4 l5 l6 l7 0 T))
    (h122 : ∀ (n : Nat) (l2 l3 l4 l5 l6 l7 l8 : Int) (T : mS), mI T → (-2147483648 ≤ l2 ∧ l2 ≤ 2147483647) → (-2147483648 ≤ l3 ∧ l3 ≤ 2147483647) → (-2147483648 ≤ l4 ∧ l4 ≤ 2147483647) → (-2147483648 ≤ l5 ∧ l5 ≤ 2147483647) → (-2147483648 ≤ l6 ∧ l6 ≤ 2147483647) → (-2147483648 ≤ l7 ∧ l7 ≤ 2147483647) → (-2147483648 ≤ l8 ∧ l8 ≤ 2147483647) → I122 n l2 l3 l4 l5 l6 l7 l8 T → ((l7 ≠ 0) → CX_refused g [mt, mi 0, mi l8, mi 0] T (Qi fun v2 S1 => mI S1 → (-2147483648 ≤ v2 ∧ v2 ≤ 2147483647) → ((v2 = 0) → (-2147483648 ≤ ((3 * l6) : Int) ∧ (3 * l6) ≤ 2147483647) ∧ (-2147483648 ≤ (((3 * l6) + l2) : Int) ∧ ((3 * l6) + l2) ≤ 2147483647) ∧ (0 ≤ ((3 * l6) + l2)) ∧ (((3 * l6) + l2) < 48) ∧ CX_note g [mt, mi 1, mi ((3 * l6) + l2), mi (S1 15 ((3 * l6) + l2)), mi (S1 16 ((3 * l6) + l2)), mi (S1 17 ((3 * l6) + l2))] S1 (Qi fun v8 S7 => mI S7 → (-2147483648 ≤ v8 ∧ v8 ≤ 2147483647) → Qp (some (mi (S1 15 ((3 * l6) + l2)))) (mup (mup (mup S7 15 ((3 * l6) + l2) l3) 16 ((3 * l6) + l2) l4) 17 ((3 * l6) + l2) l5))) ∧ (¬ (v2 = 0) → Qp (some (mi 0)) S1))) ∧ (¬ (l7 ≠ 0) → CX_refused g [mt, mi 1, mi l8, mi 0] T (Qi fun v10 S9 => mI S9 → (-2147483648 ≤ v10 ∧ v10 ≤ 2147483647) → ((v10 = 0) → (-2147483648 ≤ ((3 * l6) : Int) ∧ (3 * l6) ≤ 2147483647) ∧ (-2147483648 ≤ (((3 * l6) + l2) : Int) ∧ ((3 * l6) + l2) ≤ 2147483647) ∧ (0 ≤ ((3 * l6) + l2)) ∧ (((3 * l6) + l2) < 48) ∧ CX_note g [mt, mi 1, mi ((3 * l6) + l2), mi (S9 15 ((3 * l6) + l2)), mi (S9 16 ((3 * l6) + l2)), mi (S9 17 ((3 * l6) + l2))] S9 (Qi fun v16 S15 => mI S15 → (-2147483648 ≤ v16 ∧ v16 ≤ 2147483647) → Qp (some (mi (S9 15 ((3 * l6) + l2)))) (mup (mup (mup S15 15 ((3 * l6) + l2) l3) 16 ((3 * l6) + l2) l4) 17 ((3 * l6) + l2) l5))) ∧ (¬ (v10 = 0) → Qp (some (mi 0)) S9))))
    : CX_tell g [mt, mi a1, mi a2, mi a3, mi a4, mi a5] S Qp := by
  refine cm_y ⟨by decide, rfl⟩ (by simp [mcat]) (by simp) (fun n pc L st S => (pc = 63 ∧ ∃ (l2 : Int) (l3 : Int) (l4 : Int) (l5 : Int) (l6 : Int), L = [some mt, none, some (mi l2), some (mi l3), some (mi l4), some (mi l5), some (mi l6), none, none, none, none] ∧ st = [] ∧ I63 n l2 l3 l4 l5 l6 S) ∨ (pc = 66 ∧ ∃ (l2 : Int) (l3 : Int) (l4 : Int) (l5 : Int) (l6 : Int) (l7 : Int), L = [some mt, none, some (mi l2), some (mi l3), some (mi l4), some (mi l5), some (mi l6), some (mi l7), none, none, none] ∧ st = [] ∧ I66 n l2 l3 l4 l5 l6 l7 S) ∨ (pc = 115 ∧ ∃ (l2 : Int) (l3 : Int) (l4 : Int) (l5 : Int) (l6 : Int) (l7 : Int), L = [some mt, none, some (mi l2), some (mi l3), some (mi l4), some (mi l5), some (mi l6), some (mi l7), none, none, none] ∧ st = [] ∧ I115 n l2 l3 l4 l5 l6 l7 S) ∨ (pc = 119 ∧ ∃ (l2 : Int) (l3 : Int) (l4 : Int) (l5 : Int) (l6 : Int) (l7 : Int), L = [some mt, none, some (mi l2), some (mi l3), some (mi l4), some (mi l5), some (mi l6), some (mi l7), none, none, none] ∧ st = [] ∧ I119 n l2 l3 l4 l5 l6 l7 S) ∨ (pc = 122 ∧ ∃ (l2 : Int) (l3 : Int) (l4 : Int) (l5 : Int) (l6 : Int) (l7 : Int) (l8 : Int), L = [some mt, none, some (mi l2), some (mi l3), some (mi l4), some (mi l5), some (mi l6), some (mi l7), some (mi l8), none, none] ∧ st = [] ∧ I122 n l2 l3 l4 l5 l6 l7 l8 S)) ?_ ?_
  · intro ha hS P Y Wk hIc
    have h := hE hS (mokI (ha (mi a1) (by simp))) (mokI (ha (mi a2) (by simp))) (mokI (ha (mi a3) (by simp))) (mokI (ha (mi a4) (by simp))) (mokI (ha (mi a5) (by simp)))
    clear hE ha h63 h66 h115 h119 h122
    refine y_iload_n 0 Y dX6_tell_0 rfl ?_
    refine y_calls 1 Y (as := [mi a1]) [] dX6_tell_1 rfl rfl rfl rfl rfl h (fun r S1 hq hI hr => ?_)
    obtain ⟨v2, rfl, h⟩ := Qi_ok hq
    replace h := h hI (mokI (hr _ rfl))
    clear hq hr
    refine y_istore 4 Y [some mt, some (mi a1), some (mi a2), some (mi a3), some (mi a4), some (mi a5), some (mi v2), none, none, none, none] dX6_tell_4 rfl rfl ?_
    refine y_iload 6 Y dX6_tell_6 rfl ?_
    refine y_iconst 8 Y dX6_tell_8 rfl ?_
    refine y_icmp 9 63 Y dX6_tell_9 rfl rfl (fun c => ?_) (fun c => ?_)
    · replace h := h.1 c
      obtain ⟨n1, h⟩ := h
      exact Wk 63 _ [some mt, none, some (mi a2), some (mi a3), some (mi a4), some (mi a5), some (mi v2), none, none, none, none] _ _ ⟨rfl, ⟨rfl, ⟨rfl, ⟨rfl, ⟨rfl, ⟨rfl, trivial⟩⟩⟩⟩⟩⟩ (hIc n1 _ _ _ _ (Or.inl (⟨rfl, _, _, _, _, _, rfl, rfl, h⟩)))
    · replace h := h.2 c
      refine y_iload_n 12 Y dX6_tell_12 rfl ?_
      refine y_iconst 13 Y dX6_tell_13 rfl ?_
      refine y_iconst 14 Y dX6_tell_14 rfl ?_
      refine y_calls 15 Y (as := [mi a2, mi 0, mi 2]) [] dX6_tell_15 rfl rfl rfl rfl rfl h (fun r S3 hq hI hr => ?_)
      obtain ⟨v4, rfl, h⟩ := Qi_ok hq
      replace h := h hI (mokI (hr _ rfl))
      clear hq hr
      refine y_if 18 63 Y dX6_tell_18 rfl rfl (fun c => ?_) (fun c => ?_)
      · replace h := h.1 c
        obtain ⟨n1, h⟩ := h
        exact Wk 63 _ [some mt, none, some (mi a2), some (mi a3), some (mi a4), some (mi a5), some (mi v2), none, none, none, none] _ _ ⟨rfl, ⟨rfl, ⟨rfl, ⟨rfl, ⟨rfl, ⟨rfl, trivial⟩⟩⟩⟩⟩⟩ (hIc n1 _ _ _ _ (Or.inl (⟨rfl, _, _, _, _, _, rfl, rfl, h⟩)))
      · replace h := h.2 c
        refine y_iload_n 21 Y dX6_tell_21 rfl ?_
        refine y_iconst 22 Y dX6_tell_22 rfl ?_
        refine y_bipush 23 Y dX6_tell_23 rfl ?_
        refine y_calls 25 Y (as := [mi a3, mi 1, mi 9]) [] dX6_tell_25 rfl rfl rfl rfl rfl h (fun r S5 hq hI hr => ?_)
        obtain ⟨v6, rfl, h⟩ := Qi_ok hq
        replace h := h hI (mokI (hr _ rfl))
        clear hq hr
        refine y_if 28 63 Y dX6_tell_28 rfl rfl (fun c => ?_) (fun c => ?_)
        · replace h := h.1 c
          obtain ⟨n1, h⟩ := h
          exact Wk 63 _ [some mt, none, some (mi a2), some (mi a3), some (mi a4), some (mi a5), some (mi v2), none, none, none, none] _ _ ⟨rfl, ⟨rfl, ⟨rfl, ⟨rfl, ⟨rfl, ⟨rfl, trivial⟩⟩⟩⟩⟩⟩ (hIc n1 _ _ _ _ (Or.inl (⟨rfl, _, _, _, _, _, rfl, rfl, h⟩)))
        · replace h := h.2 c
          refine y_iload 31 Y dX6_tell_31 rfl ?_
          refine y_iconst 33 Y dX6_tell_33 rfl ?_
          refine y_iload_n 34 Y dX6_tell_34 rfl ?_
          refine y_iconst 35 Y dX6_tell_35 rfl ?_
          refine y_icmp 36 43 Y dX6_tell_36 rfl rfl (fun c => ?_) (fun c => ?_)
          · replace h := h.1 c
            refine y_iconst 43 Y dX6_tell_43 rfl ?_
            refine y_calls 44 Y (as := [mi a4, mi 0, mi 0]) [] dX6_tell_44 rfl rfl rfl rfl rfl h (fun r S7 hq hI hr => ?_)
            obtain ⟨v8, rfl, h⟩ := Qi_ok hq
            replace h := h hI (mokI (hr _ rfl))
            clear hq hr
            refine y_if 47 63 Y dX6_tell_47 rfl rfl (fun c => ?_) (fun c => ?_)
            · replace h := h.1 c
              obtain ⟨n1, h⟩ := h
              exact Wk 63 _ [some mt, none, some (mi a2), some (mi a3), some (mi a4), some (mi a5), some (mi v2), none, none, none, none] _ _ ⟨rfl, ⟨rfl, ⟨rfl, ⟨rfl, ⟨rfl, ⟨rfl, trivial⟩⟩⟩⟩⟩⟩ (hIc n1 _ _ _ _ (Or.inl (⟨rfl, _, _, _, _, _, rfl, rfl, h⟩)))
            · replace h := h.2 c
              refine y_iload_n 50 Y dX6_tell_50 rfl ?_
              refine y_iload 51 Y dX6_tell_51 rfl ?_
              refine y_calls 53 Y (as := [mi a2, mi a5]) [] dX6_tell_53 rfl rfl rfl rfl rfl h (fun r S9 hq hI hr => ?_)
              obtain ⟨v10, rfl, h⟩ := Qi_ok hq
              replace h := h hI (mokI (hr _ rfl))
              clear hq hr
              refine y_if 56 63 Y dX6_tell_56 rfl rfl (fun c => ?_) (fun c => ?_)
              · replace h := h.1 c
                obtain ⟨n1, h⟩ := h
                exact Wk 63 _ [some mt, none, some (mi a2), some (mi a3), some (mi a4), some (mi a5), some (mi v2), none, none, none, none] _ _ ⟨rfl, ⟨rfl, ⟨rfl, ⟨rfl, ⟨rfl, ⟨rfl, trivial⟩⟩⟩⟩⟩⟩ (hIc n1 _ _ _ _ (Or.inl (⟨rfl, _, _, _, _, _, rfl, rfl, h⟩)))
              · replace h := h.2 c
                refine y_iconst 59 Y dX6_tell_59 rfl ?_
                refine y_goto 60 64 Y dX6_tell_60 rfl rfl ?_
                refine y_istore 64 Y [some mt, some (mi a1), some (mi a2), some (mi a3), some (mi a4), some (mi a5), some (mi v2), some (mi 1), none, none, none] dX6_tell_64 rfl rfl ?_
                obtain ⟨n1, h⟩ := h
                exact Wk 66 _ [some mt, none, some (mi a2), some (mi a3), some (mi a4), some (mi a5), some (mi v2), some (mi 1), none, none, none] _ _ ⟨rfl, ⟨rfl, ⟨rfl, ⟨rfl, ⟨rfl, ⟨rfl, ⟨rfl, trivial⟩⟩⟩⟩⟩⟩⟩ (hIc n1 _ _ _ _ (Or.inr (Or.inl (⟨rfl, _, _, _, _, _, _, rfl, rfl, h⟩))))
          · replace h := h.2 c
            refine y_iconst 39 Y dX6_tell_39 rfl ?_
            refine y_goto 40 44 Y dX6_tell_40 rfl rfl ?_
            refine y_calls 44 Y (as := [mi a4, mi 0, mi 2]) [] dX6_tell_44 rfl rfl rfl rfl rfl h (fun r S11 hq hI hr => ?_)
            obtain ⟨v12, rfl, h⟩ := Qi_ok hq
            replace h := h hI (mokI (hr _ rfl))
            clear hq hr
            refine y_if 47 63 Y dX6_tell_47 rfl rfl (fun c => ?_) (fun c => ?_)
            · replace h := h.1 c
              obtain ⟨n1, h⟩ := h
              exact Wk 63 _ [some mt, none, some (mi a2), some (mi a3), some (mi a4), some (mi a5), some (mi v2), none, none, none, none] _ _ ⟨rfl, ⟨rfl, ⟨rfl, ⟨rfl, ⟨rfl, ⟨rfl, trivial⟩⟩⟩⟩⟩⟩ (hIc n1 _ _ _ _ (Or.inl (⟨rfl, _, _, _, _, _, rfl, rfl, h⟩)))
            · replace h := h.2 c
              refine y_iload_n 50 Y dX6_tell_50 rfl ?_
              refine y_iload 51 Y dX6_tell_51 rfl ?_
              refine y_calls 53 Y (as := [mi a2, mi a5]) [] dX6_tell_53 rfl rfl rfl rfl rfl h (fun r S13 hq hI hr => ?_)
              obtain ⟨v14, rfl, h⟩ := Qi_ok hq
              replace h := h hI (mokI (hr _ rfl))
              clear hq hr
              refine y_if 56 63 Y dX6_tell_56 rfl rfl (fun c => ?_) (fun c => ?_)
              · replace h := h.1 c
                obtain ⟨n1, h⟩ := h
                exact Wk 63 _ [some mt, none, some (mi a2), some (mi a3), some (mi a4), some (mi a5), some (mi v2), none, none, none, none] _ _ ⟨rfl, ⟨rfl, ⟨rfl, ⟨rfl, ⟨rfl, ⟨rfl, trivial⟩⟩⟩⟩⟩⟩ (hIc n1 _ _ _ _ (Or.inl (⟨rfl, _, _, _, _, _, rfl, rfl, h⟩)))
              · replace h := h.2 c
                refine y_iconst 59 Y dX6_tell_59 rfl ?_
                refine y_goto 60 64 Y dX6_tell_60 rfl rfl ?_
                refine y_istore 64 Y [some mt, some (mi a1), some (mi a2), some (mi a3), some (mi a4), some (mi a5), some (mi v2), some (mi 1), none, none, none] dX6_tell_64 rfl rfl ?_
                obtain ⟨n1, h⟩ := h
                exact Wk 66 _ [some mt, none, some (mi a2), some (mi a3), some (mi a4), some (mi a5), some (mi v2), some (mi 1), none, none, none] _ _ ⟨rfl, ⟨rfl, ⟨rfl, ⟨rfl, ⟨rfl, ⟨rfl, ⟨rfl, trivial⟩⟩⟩⟩⟩⟩⟩ (hIc n1 _ _ _ _ (Or.inr (Or.inl (⟨rfl, _, _, _, _, _, _, rfl, rfl, h⟩))))
  · intro n pc L st T hi hS hL P Y Wk hIc
    clear hE
    rcases hi with ⟨rfl, l2, l3, l4, l5, l6, rfl, rfl, hi⟩ | ⟨rfl, l2, l3, l4, l5, l6, l7, rfl, rfl, hi⟩ | ⟨rfl, l2, l3, l4, l5, l6, l7, rfl, rfl, hi⟩ | ⟨rfl, l2, l3, l4, l5, l6, l7, rfl, rfl, hi⟩ | ⟨rfl, l2, l3, l4, l5, l6, l7, l8, rfl, rfl, hi⟩
    · have h := h63 n l2 l3 l4 l5 l6 T hS (hL 2 _ rfl) (hL 3 _ rfl) (hL 4 _ rfl) (hL 5 _ rfl) (hL 6 _ rfl) hi
      clear hL hi h63 h66 h115 h119 h122
      refine y_iconst 63 Y dX6_tell_63 rfl ?_
      refine y_istore 64 Y [some mt, none, some (mi l2), some (mi l3), some (mi l4), some (mi l5), some (mi l6), some (mi 0), none, none, none] dX6_tell_64 rfl rfl ?_
      obtain ⟨n1, hn, h⟩ := h
      exact Wk 66 _ [some mt, none, some (mi l2), some (mi l3), some (mi l4), some (mi l5), some (mi l6), some (mi 0), none, none, none] _ _ ⟨rfl, ⟨rfl, ⟨rfl, ⟨rfl, ⟨rfl, ⟨rfl, ⟨rfl, trivial⟩⟩⟩⟩⟩⟩⟩ (hIc n1 _ _ _ _ hn (Or.inr (Or.inl (⟨rfl, _, _, _, _, _, _, rfl, rfl, h⟩))))
    · have h := h66 n l2 l3 l4 l5 l6 l7 T hS (hL 2 _ rfl) (hL 3 _ rfl) (hL 4 _ rfl) (hL 5 _ rfl) (hL 6 _ rfl) (hL 7 _ rfl) hi
      clear hL hi h63 h66 h115 h119 h122
      refine y_iload 66 Y dX6_tell_66 rfl ?_
      refine y_if 68 119 Y dX6_tell_68 rfl rfl (fun c => ?_) (fun c => ?_)
      · replace h := h.1 c
        obtain ⟨n1, hn, h⟩ := h
        exact Wk 119 _ [some mt, none, some (mi l2), some (mi l3), some (mi l4), some (mi l5), some (mi l6), some (mi l7), none, none, none] _ _ ⟨rfl, ⟨rfl, ⟨rfl, ⟨rfl, ⟨rfl, ⟨rfl, ⟨rfl, trivial⟩⟩⟩⟩⟩⟩⟩ (hIc n1 _ _ _ _ hn (Or.inr (Or.inr (Or.inr (Or.inl (⟨rfl, _, _, _, _, _, _, rfl, rfl, h⟩))))))
      · replace h := h.2 c
        refine y_iload_n 71 Y dX6_tell_71 rfl ?_
        refine y_if 72 119 Y dX6_tell_72 rfl rfl (fun c => ?_) (fun c => ?_)
        · replace h := h.1 c
          obtain ⟨n1, hn, h⟩ := h
          exact Wk 119 _ [some mt, none, some (mi l2), some (mi l3), some (mi l4), some (mi l5), some (mi l6), some (mi l7), none, none, none] _ _ ⟨rfl, ⟨rfl, ⟨rfl, ⟨rfl, ⟨rfl, ⟨rfl, ⟨rfl, trivial⟩⟩⟩⟩⟩⟩⟩ (hIc n1 _ _ _ _ hn (Or.inr (Or.inr (Or.inr (Or.inl (⟨rfl, _, _, _, _, _, _, rfl, rfl, h⟩))))))
        · replace h := h.2 c
          refine y_aload_n 75 Y dX6_tell_75 rfl ?_
          refine y_geta 76 Y 15 dX6_tell_76 rfl rfl ?_
          refine y_iconst 79 Y dX6_tell_79 rfl ?_
          refine y_iload 80 Y dX6_tell_80 rfl ?_
          obtain ⟨o1, h⟩ := h
          refine y_imul 82 Y dX6_tell_82 o1 ?_
          refine y_iload_n 83 Y dX6_tell_83 rfl ?_
          refine y_iconst 84 Y dX6_tell_84 rfl ?_
          refine y_icmp 85 92 Y dX6_tell_85 rfl rfl (fun c => ?_) (fun c => ?_)
          · replace h := h.1 c
            refine y_iconst 92 Y dX6_tell_92 rfl ?_
            obtain ⟨o2, h⟩ := h
            refine y_iadd 93 Y dX6_tell_93 o2 ?_
            obtain ⟨o3, h⟩ := h
            obtain ⟨o4, h⟩ := h
            refine y_iald 94 Y dX6_tell_94 rfl rfl o3 o4 (fun _ => ?_)
            refine y_if 95 115 Y dX6_tell_95 rfl rfl (fun c => ?_) (fun c => ?_)
            · replace h := h.1 c
              obtain ⟨n1, hn, h⟩ := h
              exact Wk 115 _ [some mt, none, some (mi l2), some (mi l3), some (mi l4), some (mi l5), some (mi l6), some (mi l7), none, none, none] _ _ ⟨rfl, ⟨rfl, ⟨rfl, ⟨rfl, ⟨rfl, ⟨rfl, ⟨rfl, trivial⟩⟩⟩⟩⟩⟩⟩ (hIc n1 _ _ _ _ hn (Or.inr (Or.inr (Or.inl (⟨rfl, _, _, _, _, _, _, rfl, rfl, h⟩)))))
            · replace h := h.2 c
              refine y_iload_n 98 Y dX6_tell_98 rfl ?_
              refine y_iconst 99 Y dX6_tell_99 rfl ?_
              refine y_icmp 100 119 Y dX6_tell_100 rfl rfl (fun c => ?_) (fun c => ?_)
              · replace h := h.1 c
                obtain ⟨n1, hn, h⟩ := h
                exact Wk 119 _ [some mt, none, some (mi l2), some (mi l3), some (mi l4), some (mi l5), some (mi l6), some (mi l7), none, none, none] _ _ ⟨rfl, ⟨rfl, ⟨rfl, ⟨rfl, ⟨rfl, ⟨rfl, ⟨rfl, trivial⟩⟩⟩⟩⟩⟩⟩ (hIc n1 _ _ _ _ hn (Or.inr (Or.inr (Or.inr (Or.inl (⟨rfl, _, _, _, _, _, _, rfl, rfl, h⟩))))))
              · replace h := h.2 c
                refine y_aload_n 103 Y dX6_tell_103 rfl ?_
                refine y_iload 104 Y dX6_tell_104 rfl ?_
                refine y_iload_n 106 Y dX6_tell_106 rfl ?_
                refine y_iload 107 Y dX6_tell_107 rfl ?_
                refine y_call 109 Y (as := [mi l6, mi l3, mi l4]) [] dX6_tell_109 rfl rfl rfl rfl rfl h (fun r S5 hq hI hr => ?_)
                obtain ⟨v6, rfl, h⟩ := Qi_ok hq
                replace h := h hI (mokI (hr _ rfl))
                clear hq hr
                refine y_if 112 119 Y dX6_tell_112 rfl rfl (fun c => ?_) (fun c => ?_)
                · replace h := h.1 c
                  obtain ⟨n1, hn, h⟩ := h
                  exact Wk 119 _ [some mt, none, some (mi l2), some (mi l3), some (mi l4), some (mi l5), some (mi l6), some (mi l7), none, none, none] _ _ ⟨rfl, ⟨rfl, ⟨rfl, ⟨rfl, ⟨rfl, ⟨rfl, ⟨rfl, trivial⟩⟩⟩⟩⟩⟩⟩ (hIc n1 _ _ _ _ hn (Or.inr (Or.inr (Or.inr (Or.inl (⟨rfl, _, _, _, _, _, _, rfl, rfl, h⟩))))))
                · replace h := h.2 c
                  obtain ⟨n1, hn, h⟩ := h
                  exact Wk 115 _ [some mt, none, some (mi l2), some (mi l3), some (mi l4), some (mi l5), some (mi l6), some (mi l7), none, none, none] _ _ ⟨rfl, ⟨rfl, ⟨rfl, ⟨rfl, ⟨rfl, ⟨rfl, ⟨rfl, trivial⟩⟩⟩⟩⟩⟩⟩ (hIc n1 _ _ _ _ hn (Or.inr (Or.inr (Or.inl (⟨rfl, _, _, _, _, _, _, rfl, rfl, h⟩)))))
          · replace h := h.2 c
            refine y_iconst 88 Y dX6_tell_88 rfl ?_
            refine y_goto 89 93 Y dX6_tell_89 rfl rfl ?_
            obtain ⟨o7, h⟩ := h
            refine y_iadd 93 Y dX6_tell_93 o7 ?_
            obtain ⟨o8, h⟩ := h
            obtain ⟨o9, h⟩ := h
            refine y_iald 94 Y dX6_tell_94 rfl rfl o8 o9 (fun _ => ?_)
            refine y_if 95 115 Y dX6_tell_95 rfl rfl (fun c => ?_) (fun c => ?_)
            · replace h := h.1 c
              obtain ⟨n1, hn, h⟩ := h
              exact Wk 115 _ [some mt, none, some (mi l2), some (mi l3), some (mi l4), some (mi l5), some (mi l6), some (mi l7), none, none, none] _ _ ⟨rfl, ⟨rfl, ⟨rfl, ⟨rfl, ⟨rfl, ⟨rfl, ⟨rfl, trivial⟩⟩⟩⟩⟩⟩⟩ (hIc n1 _ _ _ _ hn (Or.inr (Or.inr (Or.inl (⟨rfl, _, _, _, _, _, _, rfl, rfl, h⟩)))))
            · replace h := h.2 c
              refine y_iload_n 98 Y dX6_tell_98 rfl ?_
              refine y_iconst 99 Y dX6_tell_99 rfl ?_
              refine y_icmp 100 119 Y dX6_tell_100 rfl rfl (fun c => ?_) (fun c => ?_)
              · replace h := h.1 c
                obtain ⟨n1, hn, h⟩ := h
                exact Wk 119 _ [some mt, none, some (mi l2), some (mi l3), some (mi l4), some (mi l5), some (mi l6), some (mi l7), none, none, none] _ _ ⟨rfl, ⟨rfl, ⟨rfl, ⟨rfl, ⟨rfl, ⟨rfl, ⟨rfl, trivial⟩⟩⟩⟩⟩⟩⟩ (hIc n1 _ _ _ _ hn (Or.inr (Or.inr (Or.inr (Or.inl (⟨rfl, _, _, _, _, _, _, rfl, rfl, h⟩))))))
              · replace h := h.2 c
                refine y_aload_n 103 Y dX6_tell_103 rfl ?_
                refine y_iload 104 Y dX6_tell_104 rfl ?_
                refine y_iload_n 106 Y dX6_tell_106 rfl ?_
                refine y_iload 107 Y dX6_tell_107 rfl ?_
                refine y_call 109 Y (as := [mi l6, mi l3, mi l4]) [] dX6_tell_109 rfl rfl rfl rfl rfl h (fun r S10 hq hI hr => ?_)
                obtain ⟨v11, rfl, h⟩ := Qi_ok hq
                replace h := h hI (mokI (hr _ rfl))
                clear hq hr
                refine y_if 112 119 Y dX6_tell_112 rfl rfl (fun c => ?_) (fun c => ?_)
                · replace h := h.1 c
                  obtain ⟨n1, hn, h⟩ := h
                  exact Wk 119 _ [some mt, none, some (mi l2), some (mi l3), some (mi l4), some (mi l5), some (mi l6), some (mi l7), none, none, none] _ _ ⟨rfl, ⟨rfl, ⟨rfl, ⟨rfl, ⟨rfl, ⟨rfl, ⟨rfl, trivial⟩⟩⟩⟩⟩⟩⟩ (hIc n1 _ _ _ _ hn (Or.inr (Or.inr (Or.inr (Or.inl (⟨rfl, _, _, _, _, _, _, rfl, rfl, h⟩))))))
                · replace h := h.2 c
                  obtain ⟨n1, hn, h⟩ := h
                  exact Wk 115 _ [some mt, none, some (mi l2), some (mi l3), some (mi l4), some (mi l5), some (mi l6), some (mi l7), none, none, none] _ _ ⟨rfl, ⟨rfl, ⟨rfl, ⟨rfl, ⟨rfl, ⟨rfl, ⟨rfl, trivial⟩⟩⟩⟩⟩⟩⟩ (hIc n1 _ _ _ _ hn (Or.inr (Or.inr (Or.inl (⟨rfl, _, _, _, _, _, _, rfl, rfl, h⟩)))))
    · have h := h115 n l2 l3 l4 l5 l6 l7 T hS (hL 2 _ rfl) (hL 3 _ rfl) (hL 4 _ rfl) (hL 5 _ rfl) (hL 6 _ rfl) (hL 7 _ rfl) hi
      clear hL hi h63 h66 h115 h119 h122
      refine y_iconst 115 Y dX6_tell_115 rfl ?_
      refine y_goto 116 120 Y dX6_tell_116 rfl rfl ?_
      refine y_istore 120 Y [some mt, none, some (mi l2), some (mi l3), some (mi l4), some (mi l5), some (mi l6), some (mi l7), some (mi 1), none, none] dX6_tell_120 rfl rfl ?_
      obtain ⟨n1, hn, h⟩ := h
      exact Wk 122 _ [some mt, none, some (mi l2), some (mi l3), some (mi l4), some (mi l5), some (mi l6), some (mi l7), some (mi 1), none, none] _ _ ⟨rfl, ⟨rfl, ⟨rfl, ⟨rfl, ⟨rfl, ⟨rfl, ⟨rfl, ⟨rfl, trivial⟩⟩⟩⟩⟩⟩⟩⟩ (hIc n1 _ _ _ _ hn (Or.inr (Or.inr (Or.inr (Or.inr ((⟨rfl, _, _, _, _, _, _, _, rfl, rfl, h⟩)))))))
    · have h := h119 n l2 l3 l4 l5 l6 l7 T hS (hL 2 _ rfl) (hL 3 _ rfl) (hL 4 _ rfl) (hL 5 _ rfl) (hL 6 _ rfl) (hL 7 _ rfl) hi
      clear hL hi h63 h66 h115 h119 h122
      refine y_iconst 119 Y dX6_tell_119 rfl ?_
      refine y_istore 120 Y [some mt, none, some (mi l2), some (mi l3), some (mi l4), some (mi l5), some (mi l6), some (mi l7), some (mi 0), none, none] dX6_tell_120 rfl rfl ?_
      obtain ⟨n1, hn, h⟩ := h
      exact Wk 122 _ [some mt, none, some (mi l2), some (mi l3), some (mi l4), some (mi l5), some (mi l6), some (mi l7), some (mi 0), none, none] _ _ ⟨rfl, ⟨rfl, ⟨rfl, ⟨rfl, ⟨rfl, ⟨rfl, ⟨rfl, ⟨rfl, trivial⟩⟩⟩⟩⟩⟩⟩⟩ (hIc n1 _ _ _ _ hn (Or.inr (Or.inr (Or.inr (Or.inr ((⟨rfl, _, _, _, _, _, _, _, rfl, rfl, h⟩)))))))
    · have h := h122 n l2 l3 l4 l5 l6 l7 l8 T hS (hL 2 _ rfl) (hL 3 _ rfl) (hL 4 _ rfl) (hL 5 _ rfl) (hL 6 _ rfl) (hL 7 _ rfl) (hL 8 _ rfl) hi
      clear hL hi h63 h66 h115 h119 h122
      refine y_aload_n 122 Y dX6_tell_122 rfl ?_
      refine y_iload 123 Y dX6_tell_123 rfl ?_
      refine y_if 125 132 Y dX6_tell_125 rfl rfl (fun c => ?_) (fun c => ?_)
      · replace h := h.1 c
        refine y_iconst 132 Y dX6_tell_132 rfl ?_
        refine y_iload 133 Y dX6_tell_133 rfl ?_
        refine y_iconst 135 Y dX6_tell_135 rfl ?_
        refine y_call 136 Y (as := [mi 0, mi l8, mi 0]) [] dX6_tell_136 rfl rfl rfl rfl rfl h (fun r S1 hq hI hr => ?_)
        obtain ⟨v2, rfl, h⟩ := Qi_ok hq
        replace h := h hI (mokI (hr _ rfl))
        clear hq hr
        refine y_if 139 144 Y dX6_tell_139 rfl rfl (fun c => ?_) (fun c => ?_)
        · replace h := h.1 c
          refine y_iconst 144 Y dX6_tell_144 rfl ?_
          refine y_iload 145 Y dX6_tell_145 rfl ?_
          obtain ⟨o3, h⟩ := h
          refine y_imul 147 Y dX6_tell_147 o3 ?_
          refine y_iload_n 148 Y dX6_tell_148 rfl ?_
          obtain ⟨o4, h⟩ := h
          refine y_iadd 149 Y dX6_tell_149 o4 ?_
          refine y_istore 150 Y [some mt, none, some (mi l2), some (mi l3), some (mi l4), some (mi l5), some (mi l6), some (mi l7), some (mi l8), some (mi ((3 * l6) + l2)), none] dX6_tell_150 rfl rfl ?_
          refine y_aload_n 152 Y dX6_tell_152 rfl ?_
          refine y_geta 153 Y 15 dX6_tell_153 rfl rfl ?_
          refine y_iload 156 Y dX6_tell_156 rfl ?_
          obtain ⟨o5, h⟩ := h
          obtain ⟨o6, h⟩ := h
          refine y_iald 158 Y dX6_tell_158 rfl rfl o5 o6 (fun _ => ?_)
          refine y_istore 159 Y [some mt, none, some (mi l2), some (mi l3), some (mi l4), some (mi l5), some (mi l6), some (mi l7), some (mi l8), some (mi ((3 * l6) + l2)), some (mi (S1 15 ((3 * l6) + l2)))] dX6_tell_159 rfl rfl ?_
          refine y_aload_n 161 Y dX6_tell_161 rfl ?_
          refine y_iconst 162 Y dX6_tell_162 rfl ?_
          refine y_iload 163 Y dX6_tell_163 rfl ?_
          refine y_aload_n 165 Y dX6_tell_165 rfl ?_
          refine y_geta 166 Y 15 dX6_tell_166 rfl rfl ?_
          refine y_iload 169 Y dX6_tell_169 rfl ?_
          refine y_iald 171 Y dX6_tell_171 rfl rfl o5 o6 (fun _ => ?_)
          refine y_aload_n 172 Y dX6_tell_172 rfl ?_
          refine y_geta 173 Y 16 dX6_tell_173 rfl rfl ?_
          refine y_iload 176 Y dX6_tell_176 rfl ?_
          refine y_iald 178 Y dX6_tell_178 rfl rfl o5 o6 (fun _ => ?_)
          refine y_aload_n 179 Y dX6_tell_179 rfl ?_
          refine y_geta 180 Y 17 dX6_tell_180 rfl rfl ?_
          refine y_iload 183 Y dX6_tell_183 rfl ?_
          refine y_iald 185 Y dX6_tell_185 rfl rfl o5 o6 (fun _ => ?_)
          refine y_call 186 Y (as := [mi 1, mi ((3 * l6) + l2), mi (S1 15 ((3 * l6) + l2)), mi (S1 16 ((3 * l6) + l2)), mi (S1 17 ((3 * l6) + l2))]) [] dX6_tell_186 rfl rfl rfl rfl rfl h (fun r S7 hq hI hr => ?_)
          obtain ⟨v8, rfl, h⟩ := Qi_ok hq
          replace h := h hI (mokI (hr _ rfl))
          clear hq hr
          refine y_pop 189 Y dX6_tell_189 rfl ?_
          refine y_aload_n 190 Y dX6_tell_190 rfl ?_
          refine y_geta 191 Y 15 dX6_tell_191 rfl rfl ?_
          refine y_iload 194 Y dX6_tell_194 rfl ?_
          refine y_iload_n 196 Y dX6_tell_196 rfl ?_
          refine y_iast 197 Y dX6_tell_197 rfl rfl o5 o6 ?_
          refine y_aload_n 198 Y dX6_tell_198 rfl ?_
          refine y_geta 199 Y 16 dX6_tell_199 rfl rfl ?_
          refine y_iload 202 Y dX6_tell_202 rfl ?_
          refine y_iload 204 Y dX6_tell_204 rfl ?_
          refine y_iast 206 Y dX6_tell_206 rfl rfl o5 o6 ?_
          refine y_aload_n 207 Y dX6_tell_207 rfl ?_
          refine y_geta 208 Y 17 dX6_tell_208 rfl rfl ?_
          refine y_iload 211 Y dX6_tell_211 rfl ?_
          refine y_iload 213 Y dX6_tell_213 rfl ?_
          refine y_iast 215 Y dX6_tell_215 rfl rfl o5 o6 ?_
          refine y_iload 216 Y dX6_tell_216 rfl ?_
          exact y_iret 218 Y dX6_tell_218 rfl h
        · replace h := h.2 c
          refine y_iconst 142 Y dX6_tell_142 rfl ?_
          exact y_iret 143 Y dX6_tell_143 rfl h
      · replace h := h.2 c
        refine y_iconst 128 Y dX6_tell_128 rfl ?_
        refine y_goto 129 133 Y dX6_tell_129 rfl rfl ?_
        refine y_iload 133 Y dX6_tell_133 rfl ?_
        refine y_iconst 135 Y dX6_tell_135 rfl ?_
        refine y_call 136 Y (as := [mi 1, mi l8, mi 0]) [] dX6_tell_136 rfl rfl rfl rfl rfl h (fun r S9 hq hI hr => ?_)
        obtain ⟨v10, rfl, h⟩ := Qi_ok hq
        replace h := h hI (mokI (hr _ rfl))
        clear hq hr
        refine y_if 139 144 Y dX6_tell_139 rfl rfl (fun c => ?_) (fun c => ?_)
        · replace h := h.1 c
          refine y_iconst 144 Y dX6_tell_144 rfl ?_
          refine y_iload 145 Y dX6_tell_145 rfl ?_
          obtain ⟨o11, h⟩ := h
          refine y_imul 147 Y dX6_tell_147 o11 ?_
          refine y_iload_n 148 Y dX6_tell_148 rfl ?_
          obtain ⟨o12, h⟩ := h
          refine y_iadd 149 Y dX6_tell_149 o12 ?_
          refine y_istore 150 Y [some mt, none, some (mi l2), some (mi l3), some (mi l4), some (mi l5), some (mi l6), some (mi l7), some (mi l8), some (mi ((3 * l6) + l2)), none] dX6_tell_150 rfl rfl ?_
          refine y_aload_n 152 Y dX6_tell_152 rfl ?_
          refine y_geta 153 Y 15 dX6_tell_153 rfl rfl ?_
          refine y_iload 156 Y dX6_tell_156 rfl ?_
          obtain ⟨o13, h⟩ := h
          obtain ⟨o14, h⟩ := h
          refine y_iald 158 Y dX6_tell_158 rfl rfl o13 o14 (fun _ => ?_)
          refine y_istore 159 Y [some mt, none, some (mi l2), some (mi l3), some (mi l4), some (mi l5), some (mi l6), some (mi l7), some (mi l8), some (mi ((3 * l6) + l2)), some (mi (S9 15 ((3 * l6) + l2)))] dX6_tell_159 rfl rfl ?_
          refine y_aload_n 161 Y dX6_tell_161 rfl ?_
          refine y_iconst 162 Y dX6_tell_162 rfl ?_
          refine y_iload 163 Y dX6_tell_163 rfl ?_
          refine y_aload_n 165 Y dX6_tell_165 rfl ?_
          refine y_geta 166 Y 15 dX6_tell_166 rfl rfl ?_
          refine y_iload 169 Y dX6_tell_169 rfl ?_
          refine y_iald 171 Y dX6_tell_171 rfl rfl o13 o14 (fun _ => ?_)
          refine y_aload_n 172 Y dX6_tell_172 rfl ?_
          refine y_geta 173 Y 16 dX6_tell_173 rfl rfl ?_
          refine y_iload 176 Y dX6_tell_176 rfl ?_
          refine y_iald 178 Y dX6_tell_178 rfl rfl o13 o14 (fun _ => ?_)
          refine y_aload_n 179 Y dX6_tell_179 rfl ?_
          refine y_geta 180 Y 17 dX6_tell_180 rfl rfl ?_
          refine y_iload 183 Y dX6_tell_183 rfl ?_
          refine y_iald 185 Y dX6_tell_185 rfl rfl o13 o14 (fun _ => ?_)
          refine y_call 186 Y (as := [mi 1, mi ((3 * l6) + l2), mi (S9 15 ((3 * l6) + l2)), mi (S9 16 ((3 * l6) + l2)), mi (S9 17 ((3 * l6) + l2))]) [] dX6_tell_186 rfl rfl rfl rfl rfl h (fun r S15 hq hI hr => ?_)
          obtain ⟨v16, rfl, h⟩ := Qi_ok hq
          replace h := h hI (mokI (hr _ rfl))
          clear hq hr
          refine y_pop 189 Y dX6_tell_189 rfl ?_
          refine y_aload_n 190 Y dX6_tell_190 rfl ?_
          refine y_geta 191 Y 15 dX6_tell_191 rfl rfl ?_
          refine y_iload 194 Y dX6_tell_194 rfl ?_
          refine y_iload_n 196 Y dX6_tell_196 rfl ?_
          refine y_iast 197 Y dX6_tell_197 rfl rfl o13 o14 ?_
          refine y_aload_n 198 Y dX6_tell_198 rfl ?_
          refine y_geta 199 Y 16 dX6_tell_199 rfl rfl ?_
          refine y_iload 202 Y dX6_tell_202 rfl ?_
          refine y_iload 204 Y dX6_tell_204 rfl ?_
          refine y_iast 206 Y dX6_tell_206 rfl rfl o13 o14 ?_
          refine y_aload_n 207 Y dX6_tell_207 rfl ?_
          refine y_geta 208 Y 17 dX6_tell_208 rfl rfl ?_
          refine y_iload 211 Y dX6_tell_211 rfl ?_
          refine y_iload 213 Y dX6_tell_213 rfl ?_
          refine y_iast 215 Y dX6_tell_215 rfl rfl o13 o14 ?_
          refine y_iload 216 Y dX6_tell_216 rfl ?_
          exact y_iret 218 Y dX6_tell_218 rfl h
        · replace h := h.2 c
          refine y_iconst 142 Y dX6_tell_142 rfl ?_
          exact y_iret 143 Y dX6_tell_143 rfl h
set_option maxHeartbeats 4000000 in
theorem of_unlet {g : mG} {S : mS} {a1 : Int} {Qp : Option mV → mS → Prop}
    (hE : mI S → (-2147483648 ≤ a1 ∧ a1 ≤ 2147483647) → CX_isName g [mi a1] S (Qi fun v2 S1 => mI S1 → (-2147483648 ≤ v2 ∧ v2 ≤ 2147483647) → ((v2 ≠ 0) → CX_refused g [mt, mi 0, mi 0, mi 0] S1 (Qi fun v4 S3 => mI S3 → (-2147483648 ≤ v4 ∧ v4 ≤ 2147483647) → ((v4 ≠ 0) → Qp (some (mi 0)) S3) ∧ (¬ (v4 ≠ 0) → (-2147483648 ≤ ((a1 - 97) : Int) ∧ (a1 - 97) ≤ 2147483647) ∧ (0 ≤ (a1 - 97)) ∧ ((a1 - 97) < 26) ∧ (((S3 47 (a1 - 97)) ≠ 0) → CX_noteValue g [mt, mi (a1 - 97)] S3 (Qv fun S8 => mI S8 → Qp (some (mi 1)) (mup S8 47 (a1 - 97) 0))) ∧ (¬ ((S3 47 (a1 - 97)) ≠ 0) → Qp (some (mi 0)) S3)))) ∧ (¬ (v2 ≠ 0) → CX_refused g [mt, mi 1, mi 0, mi 0] S1 (Qi fun v10 S9 => mI S9 → (-2147483648 ≤ v10 ∧ v10 ≤ 2147483647) → ((v10 ≠ 0) → Qp (some (mi 0)) S9) ∧ (¬ (v10 ≠ 0) → (-2147483648 ≤ ((a1 - 97) : Int) ∧ (a1 - 97) ≤ 2147483647) ∧ (0 ≤ (a1 - 97)) ∧ ((a1 - 97) < 26) ∧ (((S9 47 (a1 - 97)) ≠ 0) → CX_noteValue g [mt, mi (a1 - 97)] S9 (Qv fun S14 => mI S14 → Qp (some (mi 1)) (mup S14 47 (a1 - 97) 0))) ∧ (¬ ((S9 47 (a1 - 97)) ≠ 0) → Qp (some (mi 0)) S9))))))
    : CX_unlet g [mt, mi a1] S Qp := by
  refine cm_y ⟨by decide, rfl⟩ (by simp [mcat]) (by simp) (fun _ _ _ _ _ => False) ?_ ?_
  · intro ha hS P Y Wk hIc
    have h := hE hS (mokI (ha (mi a1) (by simp)))
    clear hE ha
    refine y_aload_n 0 Y dX6_unlet_0 rfl ?_
    refine y_iload_n 1 Y dX6_unlet_1 rfl ?_
    refine y_calls 2 Y (as := [mi a1]) [mt] dX6_unlet_2 rfl rfl rfl rfl rfl h (fun r S1 hq hI hr => ?_)
    obtain ⟨v2, rfl, h⟩ := Qi_ok hq
    replace h := h hI (mokI (hr _ rfl))
    clear hq hr
    refine y_if 5 12 Y dX6_unlet_5 rfl rfl (fun c => ?_) (fun c => ?_)
    · replace h := h.1 c
      refine y_iconst 12 Y dX6_unlet_12 rfl ?_
      refine y_iconst 13 Y dX6_unlet_13 rfl ?_
      refine y_iconst 14 Y dX6_unlet_14 rfl ?_
      refine y_call 15 Y (as := [mi 0, mi 0, mi 0]) [] dX6_unlet_15 rfl rfl rfl rfl rfl h (fun r S3 hq hI hr => ?_)
      obtain ⟨v4, rfl, h⟩ := Qi_ok hq
      replace h := h hI (mokI (hr _ rfl))
      clear hq hr
      refine y_if 18 33 Y dX6_unlet_18 rfl rfl (fun c => ?_) (fun c => ?_)
      · replace h := h.1 c
        refine y_iconst 33 Y dX6_unlet_33 rfl ?_
        exact y_zret 34 Y dX6_unlet_34 rfl (by decide) h
      · replace h := h.2 c
        refine y_aload_n 21 Y dX6_unlet_21 rfl ?_
        refine y_geta 22 Y 47 dX6_unlet_22 rfl rfl ?_
        refine y_iload_n 25 Y dX6_unlet_25 rfl ?_
        refine y_bipush 26 Y dX6_unlet_26 rfl ?_
        obtain ⟨o5, h⟩ := h
        refine y_isub 28 Y dX6_unlet_28 o5 ?_
        obtain ⟨o6, h⟩ := h
        obtain ⟨o7, h⟩ := h
        refine y_bald 29 Y dX6_unlet_29 rfl rfl o6 o7 (fun _ => ?_)
        refine y_if 30 35 Y dX6_unlet_30 rfl rfl (fun c => ?_) (fun c => ?_)
        · replace h := h.1 c
          refine y_aload_n 35 Y dX6_unlet_35 rfl ?_
          refine y_iload_n 36 Y dX6_unlet_36 rfl ?_
          refine y_bipush 37 Y dX6_unlet_37 rfl ?_
          refine y_isub 39 Y dX6_unlet_39 o5 ?_
          refine y_call 40 Y (as := [mi (a1 - 97)]) [] dX6_unlet_40 rfl rfl rfl rfl rfl h (fun r S8 hq hI _ => ?_)
          obtain ⟨rfl, h⟩ := Qv_ok hq
          replace h := h hI
          clear hq
          refine y_aload_n 43 Y dX6_unlet_43 rfl ?_
          refine y_geta 44 Y 47 dX6_unlet_44 rfl rfl ?_
          refine y_iload_n 47 Y dX6_unlet_47 rfl ?_
          refine y_bipush 48 Y dX6_unlet_48 rfl ?_
          refine y_isub 50 Y dX6_unlet_50 o5 ?_
          refine y_iconst 51 Y dX6_unlet_51 rfl ?_
          refine y_bast 52 Y dX6_unlet_52 rfl rfl o6 o7 (by decide) ?_
          refine y_iconst 53 Y dX6_unlet_53 rfl ?_
          exact y_zret 54 Y dX6_unlet_54 rfl (by decide) h
        · replace h := h.2 c
          refine y_iconst 33 Y dX6_unlet_33 rfl ?_
          exact y_zret 34 Y dX6_unlet_34 rfl (by decide) h
    · replace h := h.2 c
      refine y_iconst 8 Y dX6_unlet_8 rfl ?_
      refine y_goto 9 13 Y dX6_unlet_9 rfl rfl ?_
      refine y_iconst 13 Y dX6_unlet_13 rfl ?_
      refine y_iconst 14 Y dX6_unlet_14 rfl ?_
      refine y_call 15 Y (as := [mi 1, mi 0, mi 0]) [] dX6_unlet_15 rfl rfl rfl rfl rfl h (fun r S9 hq hI hr => ?_)
      obtain ⟨v10, rfl, h⟩ := Qi_ok hq
      replace h := h hI (mokI (hr _ rfl))
      clear hq hr
      refine y_if 18 33 Y dX6_unlet_18 rfl rfl (fun c => ?_) (fun c => ?_)
      · replace h := h.1 c
        refine y_iconst 33 Y dX6_unlet_33 rfl ?_
        exact y_zret 34 Y dX6_unlet_34 rfl (by decide) h
      · replace h := h.2 c
        refine y_aload_n 21 Y dX6_unlet_21 rfl ?_
        refine y_geta 22 Y 47 dX6_unlet_22 rfl rfl ?_
        refine y_iload_n 25 Y dX6_unlet_25 rfl ?_
        refine y_bipush 26 Y dX6_unlet_26 rfl ?_
        obtain ⟨o11, h⟩ := h
        refine y_isub 28 Y dX6_unlet_28 o11 ?_
        obtain ⟨o12, h⟩ := h
        obtain ⟨o13, h⟩ := h
        refine y_bald 29 Y dX6_unlet_29 rfl rfl o12 o13 (fun _ => ?_)
        refine y_if 30 35 Y dX6_unlet_30 rfl rfl (fun c => ?_) (fun c => ?_)
        · replace h := h.1 c
          refine y_aload_n 35 Y dX6_unlet_35 rfl ?_
          refine y_iload_n 36 Y dX6_unlet_36 rfl ?_
          refine y_bipush 37 Y dX6_unlet_37 rfl ?_
          refine y_isub 39 Y dX6_unlet_39 o11 ?_
          refine y_call 40 Y (as := [mi (a1 - 97)]) [] dX6_unlet_40 rfl rfl rfl rfl rfl h (fun r S14 hq hI _ => ?_)
          obtain ⟨rfl, h⟩ := Qv_ok hq
          replace h := h hI
          clear hq
          refine y_aload_n 43 Y dX6_unlet_43 rfl ?_
          refine y_geta 44 Y 47 dX6_unlet_44 rfl rfl ?_
          refine y_iload_n 47 Y dX6_unlet_47 rfl ?_
          refine y_bipush 48 Y dX6_unlet_48 rfl ?_
          refine y_isub 50 Y dX6_unlet_50 o11 ?_
          refine y_iconst 51 Y dX6_unlet_51 rfl ?_
          refine y_bast 52 Y dX6_unlet_52 rfl rfl o12 o13 (by decide) ?_
          refine y_iconst 53 Y dX6_unlet_53 rfl ?_
          exact y_zret 54 Y dX6_unlet_54 rfl (by decide) h
        · replace h := h.2 c
          refine y_iconst 33 Y dX6_unlet_33 rfl ?_
          exact y_zret 34 Y dX6_unlet_34 rfl (by decide) h
  · intro n pc L st T hi
    exact hi.elim
set_option maxHeartbeats 4000000 in
theorem of_answer {g : mG} {S : mS} {a1 a2 : Int} {Qp : Option mV → mS → Prop} (I91 : Nat → Int → mS → Prop) (I167 : Nat → Int → Int → mS → Prop)
    (hE : mI S → (-2147483648 ≤ a1 ∧ a1 ≤ 2147483647) → (-2147483648 ≤ a2 ∧ a2 ≤ 2147483647) → CX_in g [mi a1, mi 0, mi 1] S (Qi fun v2 S1 => mI S1 → (-2147483648 ≤ v2 ∧ v2 ≤ 2147483647) → ((v2 = 0) → CX_refused g [mt, mi 1, mi 0, mi 0] S1 (Qi fun v4 S3 => mI S3 → (-2147483648 ≤ v4 ∧ v4 ≤ 2147483647) → ((v4 = 0) → ((a1 ≠ 0) → CX_loadDenominator g [mt, mi 2, mi 26] (mup S3 42 0 0) (Qv fun S5 => mI S5 → ((a1 ≠ 0) → CX_put g [mt, mi 3, mi a2] S5 (Qv fun S6 => mI S6 → (∃ n1, I91 n1 (S5 42 0) S6))) ∧ (¬ (a1 ≠ 0) → CX_sign_2 g [mt, mi 26] S5 (Qi fun v8 S7 => mI S7 → (-2147483648 ≤ v8 ∧ v8 ≤ 2147483647) → ((0 ≤ v8) → CX_put g [mt, mi 3, mi a2] S7 (Qv fun S9 => mI S9 → (∃ n1, I91 n1 (S7 42 0) S9))) ∧ (¬ (0 ≤ v8) → CX_prints g [mt, mi 45] S7 (Qv fun S10 => mI S10 → CX_put g [mt, mi 3, mi a2] S10 (Qv fun S11 => mI S11 → (∃ n1, I91 n1 (S10 42 0) S11)))))))) ∧ (¬ (a1 ≠ 0) → CX_loadNumerator g [mt, mi 2, mi 26] (mup S3 42 0 0) (Qv fun S12 => mI S12 → ((a1 ≠ 0) → CX_put g [mt, mi 3, mi a2] S12 (Qv fun S13 => mI S13 → (∃ n1, I91 n1 (S12 42 0) S13))) ∧ (¬ (a1 ≠ 0) → CX_sign_2 g [mt, mi 26] S12 (Qi fun v15 S14 => mI S14 → (-2147483648 ≤ v15 ∧ v15 ≤ 2147483647) → ((0 ≤ v15) → CX_put g [mt, mi 3, mi a2] S14 (Qv fun S16 => mI S16 → (∃ n1, I91 n1 (S14 42 0) S16))) ∧ (¬ (0 ≤ v15) → CX_prints g [mt, mi 45] S14 (Qv fun S17 => mI S17 → CX_put g [mt, mi 3, mi a2] S17 (Qv fun S18 => mI S18 → (∃ n1, I91 n1 (S17 42 0) S18))))))))) ∧ (¬ (v4 = 0) → Qp (some (mi 0)) S3))) ∧ (¬ (v2 = 0) → CX_in g [mi a2, mi 2, mi 36] S1 (Qi fun v20 S19 => mI S19 → (-2147483648 ≤ v20 ∧ v20 ≤ 2147483647) → ((v20 ≠ 0) → CX_refused g [mt, mi 0, mi 0, mi 0] S19 (Qi fun v22 S21 => mI S21 → (-2147483648 ≤ v22 ∧ v22 ≤ 2147483647) → ((v22 = 0) → ((a1 ≠ 0) → CX_loadDenominator g [mt, mi 2, mi 26] (mup S21 42 0 0) (Qv fun S23 => mI S23 → ((a1 ≠ 0) → CX_put g [mt, mi 3, mi a2] S23 (Qv fun S24 => mI S24 → (∃ n1, I91 n1 (S23 42 0) S24))) ∧ (¬ (a1 ≠ 0) → CX_sign_2 g [mt, mi 26] S23 (Qi fun v26 S25 => mI S25 → (-2147483648 ≤ v26 ∧ v26 ≤ 2147483647) → ((0 ≤ v26) → CX_put g [mt, mi 3, mi a2] S25 (Qv fun S27 => mI S27 → (∃ n1, I91 n1 (S25 42 0) S27))) ∧ (¬ (0 ≤ v26) → CX_prints g [mt, mi 45] S25 (Qv fun S28 => mI S28 → CX_put g [mt, mi 3, mi a2] S28 (Qv fun S29 => mI S29 → (∃ n1, I91 n1 (S28 42 0) S29)))))))) ∧ (¬ (a1 ≠ 0) → CX_loadNumerator g [mt, mi 2, mi 26] (mup S21 42 0 0) (Qv fun S30 => mI S30 → ((a1 ≠ 0) → CX_put g [mt, mi 3, mi a2] S30 (Qv fun S31 => mI S31 → (∃ n1, I91 n1 (S30 42 0) S31))) ∧ (¬ (a1 ≠ 0) → CX_sign_2 g [mt, mi 26] S30 (Qi fun v33 S32 => mI S32 → (-2147483648 ≤ v33 ∧ v33 ≤ 2147483647) → ((0 ≤ v33) → CX_put g [mt, mi 3, mi a2] S32 (Qv fun S34 => mI S34 → (∃ n1, I91 n1 (S32 42 0) S34))) ∧ (¬ (0 ≤ v33) → CX_prints g [mt, mi 45] S32 (Qv fun S35 => mI S35 → CX_put g [mt, mi 3, mi a2] S35 (Qv fun S36 => mI S36 → (∃ n1, I91 n1 (S35 42 0) S36))))))))) ∧ (¬ (v22 = 0) → Qp (some (mi 0)) S21))) ∧ (¬ (v20 ≠ 0) → CX_refused g [mt, mi 1, mi 0, mi 0] S19 (Qi fun v38 S37 => mI S37 → (-2147483648 ≤ v38 ∧ v38 ≤ 2147483647) → ((v38 = 0) → ((a1 ≠ 0) → CX_loadDenominator g [mt, mi 2, mi 26] (mup S37 42 0 0) (Qv fun S39 => mI S39 → ((a1 ≠ 0) → CX_put g [mt, mi 3, mi a2] S39 (Qv fun S40 => mI S40 → (∃ n1, I91 n1 (S39 42 0) S40))) ∧ (¬ (a1 ≠ 0) → CX_sign_2 g [mt, mi 26] S39 (Qi fun v42 S41 => mI S41 → (-2147483648 ≤ v42 ∧ v42 ≤ 2147483647) → ((0 ≤ v42) → CX_put g [mt, mi 3, mi a2] S41 (Qv fun S43 => mI S43 → (∃ n1, I91 n1 (S41 42 0) S43))) ∧ (¬ (0 ≤ v42) → CX_prints g [mt, mi 45] S41 (Qv fun S44 => mI S44 → CX_put g [mt, mi 3, mi a2] S44 (Qv fun S45 => mI S45 → (∃ n1, I91 n1 (S44 42 0) S45)))))))) ∧ (¬ (a1 ≠ 0) → CX_loadNumerator g [mt, mi 2, mi 26] (mup S37 42 0 0) (Qv fun S46 => mI S46 → ((a1 ≠ 0) → CX_put g [mt, mi 3, mi a2] S46 (Qv fun S47 => mI S47 → (∃ n1, I91 n1 (S46 42 0) S47))) ∧ (¬ (a1 ≠ 0) → CX_sign_2 g [mt, mi 26] S46 (Qi fun v49 S48 => mI S48 → (-2147483648 ≤ v49 ∧ v49 ≤ 2147483647) → ((0 ≤ v49) → CX_put g [mt, mi 3, mi a2] S48 (Qv fun S50 => mI S50 → (∃ n1, I91 n1 (S48 42 0) S50))) ∧ (¬ (0 ≤ v49) → CX_prints g [mt, mi 45] S48 (Qv fun S51 => mI S51 → CX_put g [mt, mi 3, mi a2] S51 (Qv fun S52 => mI S52 → (∃ n1, I91 n1 (S51 42 0) S52))))))))) ∧ (¬ (v38 = 0) → Qp (some (mi 0)) S37)))))))
    (h91 : ∀ (n : Nat) (l3 : Int) (T : mS), mI T → (-2147483648 ≤ l3 ∧ l3 ≤ 2147483647) → I91 n l3 T → CX_divide g [mt, mi 4, mi 5, mi 2, mi 3] T (Qv fun S1 => mI S1 → (((S1 2 5) ≠ 0) → ((10 ≤ (S1 1 2200)) → (-2147483648 ≤ ((97 + (S1 1 2200)) : Int) ∧ (97 + (S1 1 2200)) ≤ 2147483647) ∧ (-2147483648 ≤ (((97 + (S1 1 2200)) - 10) : Int) ∧ ((97 + (S1 1 2200)) - 10) ≤ 2147483647) ∧ CX_prints g [mt, mi ((97 + (S1 1 2200)) - 10)] S1 (Qv fun S4 => mI S4 → CX_copy g [mt, mi 2, mi 4] S4 (Qv fun S5 => mI S5 → ((0 < (S5 2 2)) → (∃ n1, n1 < n ∧ I91 n1 l3 S5)) ∧ (¬ (0 < (S5 2 2)) → (∃ n1, n1 < n ∧ I167 n1 l3 0 S5))))) ∧ (¬ (10 ≤ (S1 1 2200)) → (-2147483648 ≤ ((48 + (S1 1 2200)) : Int) ∧ (48 + (S1 1 2200)) ≤ 2147483647) ∧ CX_prints g [mt, mi (48 + (S1 1 2200))] S1 (Qv fun S7 => mI S7 → CX_copy g [mt, mi 2, mi 4] S7 (Qv fun S8 => mI S8 → ((0 < (S8 2 2)) → (∃ n1, n1 < n ∧ I91 n1 l3 S8)) ∧ (¬ (0 < (S8 2 2)) → (∃ n1, n1 < n ∧ I167 n1 l3 0 S8)))))) ∧ (¬ ((S1 2 5) ≠ 0) → CX_prints g [mt, mi (48 + 0)] S1 (Qv fun S9 => mI S9 → CX_copy g [mt, mi 2, mi 4] S9 (Qv fun S10 => mI S10 → ((0 < (S10 2 2)) → (∃ n1, n1 < n ∧ I91 n1 l3 S10)) ∧ (¬ (0 < (S10 2 2)) → (∃ n1, n1 < n ∧ I167 n1 l3 0 S10)))))))
    (h167 : ∀ (n : Nat) (l3 l4 : Int) (T : mS), mI T → (-2147483648 ≤ l3 ∧ l3 ≤ 2147483647) → (-2147483648 ≤ l4 ∧ l4 ≤ 2147483647) → I167 n l3 l4 T → (-2147483648 ≤ (((T 42 0) - l3) : Int) ∧ ((T 42 0) - l3) ≤ 2147483647) ∧ (0 ≤ ((T 42 0) - l3)) ∧ (((((T 42 0) - l3) / 2) ≤ l4) → Qp (some (mi (T 42 0))) T) ∧ (¬ ((((T 42 0) - l3) / 2) ≤ l4) → (-2147483648 ≤ ((l3 + l4) : Int) ∧ (l3 + l4) ≤ 2147483647) ∧ (0 ≤ (l3 + l4)) ∧ ((l3 + l4) < 2000) ∧ (-2147483648 ≤ (((T 42 0) - 1) : Int) ∧ ((T 42 0) - 1) ≤ 2147483647) ∧ (-2147483648 ≤ ((((T 42 0) - 1) - l4) : Int) ∧ (((T 42 0) - 1) - l4) ≤ 2147483647) ∧ (0 ≤ (((T 42 0) - 1) - l4)) ∧ ((((T 42 0) - 1) - l4) < 2000) ∧ (-2147483648 ≤ ((l4 + 1) : Int) ∧ (l4 + 1) ≤ 2147483647) ∧ (∃ n1, n1 < n ∧ I167 n1 l3 (l4 + 1) (mup (mup T 41 (l3 + l4) (T 41 (((T 42 0) - 1) - l4))) 41 (((T 42 0) - 1) - l4) (T 41 (l3 + l4))))))
    : CX_answer g [mt, mi a1, mi a2] S Qp := by
  refine cm_y ⟨by decide, rfl⟩ (by simp [mcat]) (by simp) (fun n pc L st S => (pc = 91 ∧ ∃ (l3 : Int), L = [some mt, none, none, some (mi l3), none, none] ∧ st = [] ∧ I91 n l3 S) ∨ (pc = 167 ∧ ∃ (l3 : Int) (l4 : Int), L = [some mt, none, none, some (mi l3), some (mi l4), none] ∧ st = [] ∧ I167 n l3 l4 S)) ?_ ?_
  · intro ha hS P Y Wk hIc
    have h := hE hS (mokI (ha (mi a1) (by simp))) (mokI (ha (mi a2) (by simp)))
    clear hE ha h91 h167
    refine y_aload_n 0 Y dX6_answer_0 rfl ?_
    refine y_iload_n 1 Y dX6_answer_1 rfl ?_
    refine y_iconst 2 Y dX6_answer_2 rfl ?_
    refine y_iconst 3 Y dX6_answer_3 rfl ?_
    refine y_calls 4 Y (as := [mi a1, mi 0, mi 1]) [mt] dX6_answer_4 rfl rfl rfl rfl rfl h (fun r S1 hq hI hr => ?_)
    obtain ⟨v2, rfl, h⟩ := Qi_ok hq
    replace h := h hI (mokI (hr _ rfl))
    clear hq hr
    refine y_if 7 20 Y dX6_answer_7 rfl rfl (fun c => ?_) (fun c => ?_)
    · replace h := h.1 c
      refine y_iconst 20 Y dX6_answer_20 rfl ?_
      refine y_goto 21 25 Y dX6_answer_21 rfl rfl ?_
      refine y_iconst 25 Y dX6_answer_25 rfl ?_
      refine y_iconst 26 Y dX6_answer_26 rfl ?_
      refine y_call 27 Y (as := [mi 1, mi 0, mi 0]) [] dX6_answer_27 rfl rfl rfl rfl rfl h (fun r S3 hq hI hr => ?_)
      obtain ⟨v4, rfl, h⟩ := Qi_ok hq
      replace h := h hI (mokI (hr _ rfl))
      clear hq hr
      refine y_if 30 35 Y dX6_answer_30 rfl rfl (fun c => ?_) (fun c => ?_)
      · replace h := h.1 c
        refine y_aload_n 35 Y dX6_answer_35 rfl ?_
        refine y_iconst 36 Y dX6_answer_36 rfl ?_
        refine y_putf 37 Y 42 dX6_answer_37 rfl rfl (fun q => absurd q (by decide)) ?_
        refine y_iload_n 40 Y dX6_answer_40 rfl ?_
        refine y_if 41 54 Y dX6_answer_41 rfl rfl (fun c => ?_) (fun c => ?_)
        · replace h := h.1 c
          refine y_aload_n 54 Y dX6_answer_54 rfl ?_
          refine y_iconst 55 Y dX6_answer_55 rfl ?_
          refine y_bipush 56 Y dX6_answer_56 rfl ?_
          refine y_call 58 Y (as := [mi 2, mi 26]) [] dX6_answer_58 rfl rfl rfl rfl rfl h (fun r S5 hq hI _ => ?_)
          obtain ⟨rfl, h⟩ := Qv_ok hq
          replace h := h hI
          clear hq
          refine y_iload_n 61 Y dX6_answer_61 rfl ?_
          refine y_if 62 80 Y dX6_answer_62 rfl rfl (fun c => ?_) (fun c => ?_)
          · replace h := h.1 c
            refine y_aload_n 80 Y dX6_answer_80 rfl ?_
            refine y_getf 81 Y 42 dX6_answer_81 rfl rfl (fun _ => ?_)
            refine y_istore_n 84 Y [some mt, some (mi a1), some (mi a2), some (mi (S5 42 0)), none, none] dX6_answer_84 rfl rfl ?_
            refine y_aload_n 85 Y dX6_answer_85 rfl ?_
            refine y_iconst 86 Y dX6_answer_86 rfl ?_
            refine y_iload_n 87 Y dX6_answer_87 rfl ?_
            refine y_call 88 Y (as := [mi 3, mi a2]) [] dX6_answer_88 rfl rfl rfl rfl rfl h (fun r S6 hq hI _ => ?_)
            obtain ⟨rfl, h⟩ := Qv_ok hq
            replace h := h hI
            clear hq
            obtain ⟨n1, h⟩ := h
            exact Wk 91 _ [some mt, none, none, some (mi (S5 42 0)), none, none] _ _ ⟨rfl, ⟨rfl, trivial⟩⟩ (hIc n1 _ _ _ _ (Or.inl (⟨rfl, _, rfl, rfl, h⟩)))
          · replace h := h.2 c
            refine y_aload_n 65 Y dX6_answer_65 rfl ?_
            refine y_bipush 66 Y dX6_answer_66 rfl ?_
            refine y_call 68 Y (as := [mi 26]) [] dX6_answer_68 rfl rfl rfl rfl rfl h (fun r S7 hq hI hr => ?_)
            obtain ⟨v8, rfl, h⟩ := Qi_ok hq
            replace h := h hI (mokI (hr _ rfl))
            clear hq hr
            refine y_if 71 80 Y dX6_answer_71 rfl rfl (fun c => ?_) (fun c => ?_)
            · replace h := h.1 c
              refine y_aload_n 80 Y dX6_answer_80 rfl ?_
              refine y_getf 81 Y 42 dX6_answer_81 rfl rfl (fun _ => ?_)
              refine y_istore_n 84 Y [some mt, some (mi a1), some (mi a2), some (mi (S7 42 0)), none, none] dX6_answer_84 rfl rfl ?_
              refine y_aload_n 85 Y dX6_answer_85 rfl ?_
              refine y_iconst 86 Y dX6_answer_86 rfl ?_
              refine y_iload_n 87 Y dX6_answer_87 rfl ?_
              refine y_call 88 Y (as := [mi 3, mi a2]) [] dX6_answer_88 rfl rfl rfl rfl rfl h (fun r S9 hq hI _ => ?_)
              obtain ⟨rfl, h⟩ := Qv_ok hq
              replace h := h hI
              clear hq
              obtain ⟨n1, h⟩ := h
              exact Wk 91 _ [some mt, none, none, some (mi (S7 42 0)), none, none] _ _ ⟨rfl, ⟨rfl, trivial⟩⟩ (hIc n1 _ _ _ _ (Or.inl (⟨rfl, _, rfl, rfl, h⟩)))
            · replace h := h.2 c
              refine y_aload_n 74 Y dX6_answer_74 rfl ?_
              refine y_bipush 75 Y dX6_answer_75 rfl ?_
              refine y_call 77 Y (as := [mi 45]) [] dX6_answer_77 rfl rfl rfl rfl rfl h (fun r S10 hq hI _ => ?_)
              obtain ⟨rfl, h⟩ := Qv_ok hq
              replace h := h hI
              clear hq
              refine y_aload_n 80 Y dX6_answer_80 rfl ?_
              refine y_getf 81 Y 42 dX6_answer_81 rfl rfl (fun _ => ?_)
              refine y_istore_n 84 Y [some mt, some (mi a1), some (mi a2), some (mi (S10 42 0)), none, none] dX6_answer_84 rfl rfl ?_
              refine y_aload_n 85 Y dX6_answer_85 rfl ?_
              refine y_iconst 86 Y dX6_answer_86 rfl ?_
              refine y_iload_n 87 Y dX6_answer_87 rfl ?_
              refine y_call 88 Y (as := [mi 3, mi a2]) [] dX6_answer_88 rfl rfl rfl rfl rfl h (fun r S11 hq hI _ => ?_)
              obtain ⟨rfl, h⟩ := Qv_ok hq
              replace h := h hI
              clear hq
              obtain ⟨n1, h⟩ := h
              exact Wk 91 _ [some mt, none, none, some (mi (S10 42 0)), none, none] _ _ ⟨rfl, ⟨rfl, trivial⟩⟩ (hIc n1 _ _ _ _ (Or.inl (⟨rfl, _, rfl, rfl, h⟩)))
        · replace h := h.2 c
          refine y_aload_n 44 Y dX6_answer_44 rfl ?_
          refine y_iconst 45 Y dX6_answer_45 rfl ?_
          refine y_bipush 46 Y dX6_answer_46 rfl ?_
          refine y_call 48 Y (as := [mi 2, mi 26]) [] dX6_answer_48 rfl rfl rfl rfl rfl h (fun r S12 hq hI _ => ?_)
          obtain ⟨rfl, h⟩ := Qv_ok hq
          replace h := h hI
          clear hq
          refine y_goto 51 61 Y dX6_answer_51 rfl rfl ?_
          refine y_iload_n 61 Y dX6_answer_61 rfl ?_
          refine y_if 62 80 Y dX6_answer_62 rfl rfl (fun c => ?_) (fun c => ?_)
          · replace h := h.1 c
            refine y_aload_n 80 Y dX6_answer_80 rfl ?_
            refine y_getf 81 Y 42 dX6_answer_81 rfl rfl (fun _ => ?_)
            refine y_istore_n 84 Y [some mt, some (mi a1), some (mi a2), some (mi (S12 42 0)), none, none] dX6_answer_84 rfl rfl ?_
            refine y_aload_n 85 Y dX6_answer_85 rfl ?_
            refine y_iconst 86 Y dX6_answer_86 rfl ?_
            refine y_iload_n 87 Y dX6_answer_87 rfl ?_
            refine y_call 88 Y (as := [mi 3, mi a2]) [] dX6_answer_88 rfl rfl rfl rfl rfl h (fun r S13 hq hI _ => ?_)
            obtain ⟨rfl, h⟩ := Qv_ok hq
            replace h := h hI
            clear hq
            obtain ⟨n1, h⟩ := h
            exact Wk 91 _ [some mt, none, none, some (mi (S12 42 0)), none, none] _ _ ⟨rfl, ⟨rfl, trivial⟩⟩ (hIc n1 _ _ _ _ (Or.inl (⟨rfl, _, rfl, rfl, h⟩)))
          · replace h := h.2 c
            refine y_aload_n 65 Y dX6_answer_65 rfl ?_
            refine y_bipush 66 Y dX6_answer_66 rfl ?_
            refine y_call 68 Y (as := [mi 26]) [] dX6_answer_68 rfl rfl rfl rfl rfl h (fun r S14 hq hI hr => ?_)
            obtain ⟨v15, rfl, h⟩ := Qi_ok hq
            replace h := h hI (mokI (hr _ rfl))
            clear hq hr
            refine y_if 71 80 Y dX6_answer_71 rfl rfl (fun c => ?_) (fun c => ?_)
            · replace h := h.1 c
              refine y_aload_n 80 Y dX6_answer_80 rfl ?_
              refine y_getf 81 Y 42 dX6_answer_81 rfl rfl (fun _ => ?_)
              refine y_istore_n 84 Y [some mt, some (mi a1), some (mi a2), some (mi (S14 42 0)), none, none] dX6_answer_84 rfl rfl ?_
              refine y_aload_n 85 Y dX6_answer_85 rfl ?_
              refine y_iconst 86 Y dX6_answer_86 rfl ?_
              refine y_iload_n 87 Y dX6_answer_87 rfl ?_
              refine y_call 88 Y (as := [mi 3, mi a2]) [] dX6_answer_88 rfl rfl rfl rfl rfl h (fun r S16 hq hI _ => ?_)
              obtain ⟨rfl, h⟩ := Qv_ok hq
              replace h := h hI
              clear hq
              obtain ⟨n1, h⟩ := h
              exact Wk 91 _ [some mt, none, none, some (mi (S14 42 0)), none, none] _ _ ⟨rfl, ⟨rfl, trivial⟩⟩ (hIc n1 _ _ _ _ (Or.inl (⟨rfl, _, rfl, rfl, h⟩)))
            · replace h := h.2 c
              refine y_aload_n 74 Y dX6_answer_74 rfl ?_
              refine y_bipush 75 Y dX6_answer_75 rfl ?_
              refine y_call 77 Y (as := [mi 45]) [] dX6_answer_77 rfl rfl rfl rfl rfl h (fun r S17 hq hI _ => ?_)
              obtain ⟨rfl, h⟩ := Qv_ok hq
              replace h := h hI
              clear hq
              refine y_aload_n 80 Y dX6_answer_80 rfl ?_
              refine y_getf 81 Y 42 dX6_answer_81 rfl rfl (fun _ => ?_)
              refine y_istore_n 84 Y [some mt, some (mi a1), some (mi a2), some (mi (S17 42 0)), none, none] dX6_answer_84 rfl rfl ?_
              refine y_aload_n 85 Y dX6_answer_85 rfl ?_
              refine y_iconst 86 Y dX6_answer_86 rfl ?_
              refine y_iload_n 87 Y dX6_answer_87 rfl ?_
              refine y_call 88 Y (as := [mi 3, mi a2]) [] dX6_answer_88 rfl rfl rfl rfl rfl h (fun r S18 hq hI _ => ?_)
              obtain ⟨rfl, h⟩ := Qv_ok hq
              replace h := h hI
              clear hq
              obtain ⟨n1, h⟩ := h
              exact Wk 91 _ [some mt, none, none, some (mi (S17 42 0)), none, none] _ _ ⟨rfl, ⟨rfl, trivial⟩⟩ (hIc n1 _ _ _ _ (Or.inl (⟨rfl, _, rfl, rfl, h⟩)))
      · replace h := h.2 c
        refine y_iconst 33 Y dX6_answer_33 rfl ?_
        exact y_iret 34 Y dX6_answer_34 rfl h
    · replace h := h.2 c
      refine y_iload_n 10 Y dX6_answer_10 rfl ?_
      refine y_iconst 11 Y dX6_answer_11 rfl ?_
      refine y_bipush 12 Y dX6_answer_12 rfl ?_
      refine y_calls 14 Y (as := [mi a2, mi 2, mi 36]) [mt] dX6_answer_14 rfl rfl rfl rfl rfl h (fun r S19 hq hI hr => ?_)
      obtain ⟨v20, rfl, h⟩ := Qi_ok hq
      replace h := h hI (mokI (hr _ rfl))
      clear hq hr
      refine y_if 17 24 Y dX6_answer_17 rfl rfl (fun c => ?_) (fun c => ?_)
      · replace h := h.1 c
        refine y_iconst 24 Y dX6_answer_24 rfl ?_
        refine y_iconst 25 Y dX6_answer_25 rfl ?_
        refine y_iconst 26 Y dX6_answer_26 rfl ?_
        refine y_call 27 Y (as := [mi 0, mi 0, mi 0]) [] dX6_answer_27 rfl rfl rfl rfl rfl h (fun r S21 hq hI hr => ?_)
        obtain ⟨v22, rfl, h⟩ := Qi_ok hq
        replace h := h hI (mokI (hr _ rfl))
        clear hq hr
        refine y_if 30 35 Y dX6_answer_30 rfl rfl (fun c => ?_) (fun c => ?_)
        · replace h := h.1 c
          refine y_aload_n 35 Y dX6_answer_35 rfl ?_
          refine y_iconst 36 Y dX6_answer_36 rfl ?_
          refine y_putf 37 Y 42 dX6_answer_37 rfl rfl (fun q => absurd q (by decide)) ?_
          refine y_iload_n 40 Y dX6_answer_40 rfl ?_
          refine y_if 41 54 Y dX6_answer_41 rfl rfl (fun c => ?_) (fun c => ?_)
          · replace h := h.1 c
            refine y_aload_n 54 Y dX6_answer_54 rfl ?_
            refine y_iconst 55 Y dX6_answer_55 rfl ?_
            refine y_bipush 56 Y dX6_answer_56 rfl ?_
            refine y_call 58 Y (as := [mi 2, mi 26]) [] dX6_answer_58 rfl rfl rfl rfl rfl h (fun r S23 hq hI _ => ?_)
            obtain ⟨rfl, h⟩ := Qv_ok hq
            replace h := h hI
            clear hq
            refine y_iload_n 61 Y dX6_answer_61 rfl ?_
            refine y_if 62 80 Y dX6_answer_62 rfl rfl (fun c => ?_) (fun c => ?_)
            · replace h := h.1 c
              refine y_aload_n 80 Y dX6_answer_80 rfl ?_
              refine y_getf 81 Y 42 dX6_answer_81 rfl rfl (fun _ => ?_)
              refine y_istore_n 84 Y [some mt, some (mi a1), some (mi a2), some (mi (S23 42 0)), none, none] dX6_answer_84 rfl rfl ?_
              refine y_aload_n 85 Y dX6_answer_85 rfl ?_
              refine y_iconst 86 Y dX6_answer_86 rfl ?_
              refine y_iload_n 87 Y dX6_answer_87 rfl ?_
              refine y_call 88 Y (as := [mi 3, mi a2]) [] dX6_answer_88 rfl rfl rfl rfl rfl h (fun r S24 hq hI _ => ?_)
              obtain ⟨rfl, h⟩ := Qv_ok hq
              replace h := h hI
              clear hq
              obtain ⟨n1, h⟩ := h
              exact Wk 91 _ [some mt, none, none, some (mi (S23 42 0)), none, none] _ _ ⟨rfl, ⟨rfl, trivial⟩⟩ (hIc n1 _ _ _ _ (Or.inl (⟨rfl, _, rfl, rfl, h⟩)))
            · replace h := h.2 c
              refine y_aload_n 65 Y dX6_answer_65 rfl ?_
              refine y_bipush 66 Y dX6_answer_66 rfl ?_
              refine y_call 68 Y (as := [mi 26]) [] dX6_answer_68 rfl rfl rfl rfl rfl h (fun r S25 hq hI hr => ?_)
              obtain ⟨v26, rfl, h⟩ := Qi_ok hq
              replace h := h hI (mokI (hr _ rfl))
              clear hq hr
              refine y_if 71 80 Y dX6_answer_71 rfl rfl (fun c => ?_) (fun c => ?_)
              · replace h := h.1 c
                refine y_aload_n 80 Y dX6_answer_80 rfl ?_
                refine y_getf 81 Y 42 dX6_answer_81 rfl rfl (fun _ => ?_)
                refine y_istore_n 84 Y [some mt, some (mi a1), some (mi a2), some (mi (S25 42 0)), none, none] dX6_answer_84 rfl rfl ?_
                refine y_aload_n 85 Y dX6_answer_85 rfl ?_
                refine y_iconst 86 Y dX6_answer_86 rfl ?_
                refine y_iload_n 87 Y dX6_answer_87 rfl ?_
                refine y_call 88 Y (as := [mi 3, mi a2]) [] dX6_answer_88 rfl rfl rfl rfl rfl h (fun r S27 hq hI _ => ?_)
                obtain ⟨rfl, h⟩ := Qv_ok hq
                replace h := h hI
                clear hq
                obtain ⟨n1, h⟩ := h
                exact Wk 91 _ [some mt, none, none, some (mi (S25 42 0)), none, none] _ _ ⟨rfl, ⟨rfl, trivial⟩⟩ (hIc n1 _ _ _ _ (Or.inl (⟨rfl, _, rfl, rfl, h⟩)))
              · replace h := h.2 c
                refine y_aload_n 74 Y dX6_answer_74 rfl ?_
                refine y_bipush 75 Y dX6_answer_75 rfl ?_
                refine y_call 77 Y (as := [mi 45]) [] dX6_answer_77 rfl rfl rfl rfl rfl h (fun r S28 hq hI _ => ?_)
                obtain ⟨rfl, h⟩ := Qv_ok hq
                replace h := h hI
                clear hq
                refine y_aload_n 80 Y dX6_answer_80 rfl ?_
                refine y_getf 81 Y 42 dX6_answer_81 rfl rfl (fun _ => ?_)
                refine y_istore_n 84 Y [some mt, some (mi a1), some (mi a2), some (mi (S28 42 0)), none, none] dX6_answer_84 rfl rfl ?_
                refine y_aload_n 85 Y dX6_answer_85 rfl ?_
                refine y_iconst 86 Y dX6_answer_86 rfl ?_
                refine y_iload_n 87 Y dX6_answer_87 rfl ?_
                refine y_call 88 Y (as := [mi 3, mi a2]) [] dX6_answer_88 rfl rfl rfl rfl rfl h (fun r S29 hq hI _ => ?_)
                obtain ⟨rfl, h⟩ := Qv_ok hq
                replace h := h hI
                clear hq
                obtain ⟨n1, h⟩ := h
                exact Wk 91 _ [some mt, none, none, some (mi (S28 42 0)), none, none] _ _ ⟨rfl, ⟨rfl, trivial⟩⟩ (hIc n1 _ _ _ _ (Or.inl (⟨rfl, _, rfl, rfl, h⟩)))
          · replace h := h.2 c
            refine y_aload_n 44 Y dX6_answer_44 rfl ?_
            refine y_iconst 45 Y dX6_answer_45 rfl ?_
            refine y_bipush 46 Y dX6_answer_46 rfl ?_
            refine y_call 48 Y (as := [mi 2, mi 26]) [] dX6_answer_48 rfl rfl rfl rfl rfl h (fun r S30 hq hI _ => ?_)
            obtain ⟨rfl, h⟩ := Qv_ok hq
            replace h := h hI
            clear hq
            refine y_goto 51 61 Y dX6_answer_51 rfl rfl ?_
            refine y_iload_n 61 Y dX6_answer_61 rfl ?_
            refine y_if 62 80 Y dX6_answer_62 rfl rfl (fun c => ?_) (fun c => ?_)
            · replace h := h.1 c
              refine y_aload_n 80 Y dX6_answer_80 rfl ?_
              refine y_getf 81 Y 42 dX6_answer_81 rfl rfl (fun _ => ?_)
              refine y_istore_n 84 Y [some mt, some (mi a1), some (mi a2), some (mi (S30 42 0)), none, none] dX6_answer_84 rfl rfl ?_
              refine y_aload_n 85 Y dX6_answer_85 rfl ?_
              refine y_iconst 86 Y dX6_answer_86 rfl ?_
              refine y_iload_n 87 Y dX6_answer_87 rfl ?_
              refine y_call 88 Y (as := [mi 3, mi a2]) [] dX6_answer_88 rfl rfl rfl rfl rfl h (fun r S31 hq hI _ => ?_)
              obtain ⟨rfl, h⟩ := Qv_ok hq
              replace h := h hI
              clear hq
              obtain ⟨n1, h⟩ := h
              exact Wk 91 _ [some mt, none, none, some (mi (S30 42 0)), none, none] _ _ ⟨rfl, ⟨rfl, trivial⟩⟩ (hIc n1 _ _ _ _ (Or.inl (⟨rfl, _, rfl, rfl, h⟩)))
            · replace h := h.2 c
              refine y_aload_n 65 Y dX6_answer_65 rfl ?_
              refine y_bipush 66 Y dX6_answer_66 rfl ?_
              refine y_call 68 Y (as := [mi 26]) [] dX6_answer_68 rfl rfl rfl rfl rfl h (fun r S32 hq hI hr => ?_)
              obtain ⟨v33, rfl, h⟩ := Qi_ok hq
              replace h := h hI (mokI (hr _ rfl))
              clear hq hr
              refine y_if 71 80 Y dX6_answer_71 rfl rfl (fun c => ?_) (fun c => ?_)
              · replace h := h.1 c
                refine y_aload_n 80 Y dX6_answer_80 rfl ?_
                refine y_getf 81 Y 42 dX6_answer_81 rfl rfl (fun _ => ?_)
                refine y_istore_n 84 Y [some mt, some (mi a1), some (mi a2), some (mi (S32 42 0)), none, none] dX6_answer_84 rfl rfl ?_
                refine y_aload_n 85 Y dX6_answer_85 rfl ?_
                refine y_iconst 86 Y dX6_answer_86 rfl ?_
                refine y_iload_n 87 Y dX6_answer_87 rfl ?_
                refine y_call 88 Y (as := [mi 3, mi a2]) [] dX6_answer_88 rfl rfl rfl rfl rfl h (fun r S34 hq hI _ => ?_)
                obtain ⟨rfl, h⟩ := Qv_ok hq
                replace h := h hI
                clear hq
                obtain ⟨n1, h⟩ := h
                exact Wk 91 _ [some mt, none, none, some (mi (S32 42 0)), none, none] _ _ ⟨rfl, ⟨rfl, trivial⟩⟩ (hIc n1 _ _ _ _ (Or.inl (⟨rfl, _, rfl, rfl, h⟩)))
              · replace h := h.2 c
                refine y_aload_n 74 Y dX6_answer_74 rfl ?_
                refine y_bipush 75 Y dX6_answer_75 rfl ?_
                refine y_call 77 Y (as := [mi 45]) [] dX6_answer_77 rfl rfl rfl rfl rfl h (fun r S35 hq hI _ => ?_)
                obtain ⟨rfl, h⟩ := Qv_ok hq
                replace h := h hI
                clear hq
                refine y_aload_n 80 Y dX6_answer_80 rfl ?_
                refine y_getf 81 Y 42 dX6_answer_81 rfl rfl (fun _ => ?_)
                refine y_istore_n 84 Y [some mt, some (mi a1), some (mi a2), some (mi (S35 42 0)), none, none] dX6_answer_84 rfl rfl ?_
                refine y_aload_n 85 Y dX6_answer_85 rfl ?_
                refine y_iconst 86 Y dX6_answer_86 rfl ?_
                refine y_iload_n 87 Y dX6_answer_87 rfl ?_
                refine y_call 88 Y (as := [mi 3, mi a2]) [] dX6_answer_88 rfl rfl rfl rfl rfl h (fun r S36 hq hI _ => ?_)
                obtain ⟨rfl, h⟩ := Qv_ok hq
                replace h := h hI
                clear hq
                obtain ⟨n1, h⟩ := h
                exact Wk 91 _ [some mt, none, none, some (mi (S35 42 0)), none, none] _ _ ⟨rfl, ⟨rfl, trivial⟩⟩ (hIc n1 _ _ _ _ (Or.inl (⟨rfl, _, rfl, rfl, h⟩)))
        · replace h := h.2 c
          refine y_iconst 33 Y dX6_answer_33 rfl ?_
          exact y_iret 34 Y dX6_answer_34 rfl h
      · replace h := h.2 c
        refine y_iconst 20 Y dX6_answer_20 rfl ?_
        refine y_goto 21 25 Y dX6_answer_21 rfl rfl ?_
        refine y_iconst 25 Y dX6_answer_25 rfl ?_
        refine y_iconst 26 Y dX6_answer_26 rfl ?_
        refine y_call 27 Y (as := [mi 1, mi 0, mi 0]) [] dX6_answer_27 rfl rfl rfl rfl rfl h (fun r S37 hq hI hr => ?_)
        obtain ⟨v38, rfl, h⟩ := Qi_ok hq
        replace h := h hI (mokI (hr _ rfl))
        clear hq hr
        refine y_if 30 35 Y dX6_answer_30 rfl rfl (fun c => ?_) (fun c => ?_)
        · replace h := h.1 c
          refine y_aload_n 35 Y dX6_answer_35 rfl ?_
          refine y_iconst 36 Y dX6_answer_36 rfl ?_
          refine y_putf 37 Y 42 dX6_answer_37 rfl rfl (fun q => absurd q (by decide)) ?_
          refine y_iload_n 40 Y dX6_answer_40 rfl ?_
          refine y_if 41 54 Y dX6_answer_41 rfl rfl (fun c => ?_) (fun c => ?_)
          · replace h := h.1 c
            refine y_aload_n 54 Y dX6_answer_54 rfl ?_
            refine y_iconst 55 Y dX6_answer_55 rfl ?_
            refine y_bipush 56 Y dX6_answer_56 rfl ?_
            refine y_call 58 Y (as := [mi 2, mi 26]) [] dX6_answer_58 rfl rfl rfl rfl rfl h (fun r S39 hq hI _ => ?_)
            obtain ⟨rfl, h⟩ := Qv_ok hq
            replace h := h hI
            clear hq
            refine y_iload_n 61 Y dX6_answer_61 rfl ?_
            refine y_if 62 80 Y dX6_answer_62 rfl rfl (fun c => ?_) (fun c => ?_)
            · replace h := h.1 c
              refine y_aload_n 80 Y dX6_answer_80 rfl ?_
              refine y_getf 81 Y 42 dX6_answer_81 rfl rfl (fun _ => ?_)
              refine y_istore_n 84 Y [some mt, some (mi a1), some (mi a2), some (mi (S39 42 0)), none, none] dX6_answer_84 rfl rfl ?_
              refine y_aload_n 85 Y dX6_answer_85 rfl ?_
              refine y_iconst 86 Y dX6_answer_86 rfl ?_
              refine y_iload_n 87 Y dX6_answer_87 rfl ?_
              refine y_call 88 Y (as := [mi 3, mi a2]) [] dX6_answer_88 rfl rfl rfl rfl rfl h (fun r S40 hq hI _ => ?_)
              obtain ⟨rfl, h⟩ := Qv_ok hq
              replace h := h hI
              clear hq
              obtain ⟨n1, h⟩ := h
              exact Wk 91 _ [some mt, none, none, some (mi (S39 42 0)), none, none] _ _ ⟨rfl, ⟨rfl, trivial⟩⟩ (hIc n1 _ _ _ _ (Or.inl (⟨rfl, _, rfl, rfl, h⟩)))
            · replace h := h.2 c
              refine y_aload_n 65 Y dX6_answer_65 rfl ?_
              refine y_bipush 66 Y dX6_answer_66 rfl ?_
              refine y_call 68 Y (as := [mi 26]) [] dX6_answer_68 rfl rfl rfl rfl rfl h (fun r S41 hq hI hr => ?_)
              obtain ⟨v42, rfl, h⟩ := Qi_ok hq
              replace h := h hI (mokI (hr _ rfl))
              clear hq hr
              refine y_if 71 80 Y dX6_answer_71 rfl rfl (fun c => ?_) (fun c => ?_)
              · replace h := h.1 c
                refine y_aload_n 80 Y dX6_answer_80 rfl ?_
                refine y_getf 81 Y 42 dX6_answer_81 rfl rfl (fun _ => ?_)
                refine y_istore_n 84 Y [some mt, some (mi a1), some (mi a2), some (mi (S41 42 0)), none, none] dX6_answer_84 rfl rfl ?_
                refine y_aload_n 85 Y dX6_answer_85 rfl ?_
                refine y_iconst 86 Y dX6_answer_86 rfl ?_
                refine y_iload_n 87 Y dX6_answer_87 rfl ?_
                refine y_call 88 Y (as := [mi 3, mi a2]) [] dX6_answer_88 rfl rfl rfl rfl rfl h (fun r S43 hq hI _ => ?_)
                obtain ⟨rfl, h⟩ := Qv_ok hq
                replace h := h hI
                clear hq
                obtain ⟨n1, h⟩ := h
                exact Wk 91 _ [some mt, none, none, some (mi (S41 42 0)), none, none] _ _ ⟨rfl, ⟨rfl, trivial⟩⟩ (hIc n1 _ _ _ _ (Or.inl (⟨rfl, _, rfl, rfl, h⟩)))
              · replace h := h.2 c
                refine y_aload_n 74 Y dX6_answer_74 rfl ?_
                refine y_bipush 75 Y dX6_answer_75 rfl ?_
                refine y_call 77 Y (as := [mi 45]) [] dX6_answer_77 rfl rfl rfl rfl rfl h (fun r S44 hq hI _ => ?_)
                obtain ⟨rfl, h⟩ := Qv_ok hq
                replace h := h hI
                clear hq
                refine y_aload_n 80 Y dX6_answer_80 rfl ?_
                refine y_getf 81 Y 42 dX6_answer_81 rfl rfl (fun _ => ?_)
                refine y_istore_n 84 Y [some mt, some (mi a1), some (mi a2), some (mi (S44 42 0)), none, none] dX6_answer_84 rfl rfl ?_
                refine y_aload_n 85 Y dX6_answer_85 rfl ?_
                refine y_iconst 86 Y dX6_answer_86 rfl ?_
                refine y_iload_n 87 Y dX6_answer_87 rfl ?_
                refine y_call 88 Y (as := [mi 3, mi a2]) [] dX6_answer_88 rfl rfl rfl rfl rfl h (fun r S45 hq hI _ => ?_)
                obtain ⟨rfl, h⟩ := Qv_ok hq
                replace h := h hI
                clear hq
                obtain ⟨n1, h⟩ := h
                exact Wk 91 _ [some mt, none, none, some (mi (S44 42 0)), none, none] _ _ ⟨rfl, ⟨rfl, trivial⟩⟩ (hIc n1 _ _ _ _ (Or.inl (⟨rfl, _, rfl, rfl, h⟩)))
          · replace h := h.2 c
            refine y_aload_n 44 Y dX6_answer_44 rfl ?_
            refine y_iconst 45 Y dX6_answer_45 rfl ?_
            refine y_bipush 46 Y dX6_answer_46 rfl ?_
            refine y_call 48 Y (as := [mi 2, mi 26]) [] dX6_answer_48 rfl rfl rfl rfl rfl h (fun r S46 hq hI _ => ?_)
            obtain ⟨rfl, h⟩ := Qv_ok hq
            replace h := h hI
            clear hq
            refine y_goto 51 61 Y dX6_answer_51 rfl rfl ?_
            refine y_iload_n 61 Y dX6_answer_61 rfl ?_
            refine y_if 62 80 Y dX6_answer_62 rfl rfl (fun c => ?_) (fun c => ?_)
            · replace h := h.1 c
              refine y_aload_n 80 Y dX6_answer_80 rfl ?_
              refine y_getf 81 Y 42 dX6_answer_81 rfl rfl (fun _ => ?_)
              refine y_istore_n 84 Y [some mt, some (mi a1), some (mi a2), some (mi (S46 42 0)), none, none] dX6_answer_84 rfl rfl ?_
              refine y_aload_n 85 Y dX6_answer_85 rfl ?_
              refine y_iconst 86 Y dX6_answer_86 rfl ?_
              refine y_iload_n 87 Y dX6_answer_87 rfl ?_
              refine y_call 88 Y (as := [mi 3, mi a2]) [] dX6_answer_88 rfl rfl rfl rfl rfl h (fun r S47 hq hI _ => ?_)
              obtain ⟨rfl, h⟩ := Qv_ok hq
              replace h := h hI
              clear hq
              obtain ⟨n1, h⟩ := h
              exact Wk 91 _ [some mt, none, none, some (mi (S46 42 0)), none, none] _ _ ⟨rfl, ⟨rfl, trivial⟩⟩ (hIc n1 _ _ _ _ (Or.inl (⟨rfl, _, rfl, rfl, h⟩)))
            · replace h := h.2 c
              refine y_aload_n 65 Y dX6_answer_65 rfl ?_
              refine y_bipush 66 Y dX6_answer_66 rfl ?_
              refine y_call 68 Y (as := [mi 26]) [] dX6_answer_68 rfl rfl rfl rfl rfl h (fun r S48 hq hI hr => ?_)
              obtain ⟨v49, rfl, h⟩ := Qi_ok hq
              replace h := h hI (mokI (hr _ rfl))
              clear hq hr
              refine y_if 71 80 Y dX6_answer_71 rfl rfl (fun c => ?_) (fun c => ?_)
              · replace h := h.1 c
                refine y_aload_n 80 Y dX6_answer_80 rfl ?_
                refine y_getf 81 Y 42 dX6_answer_81 rfl rfl (fun _ => ?_)
                refine y_istore_n 84 Y [some mt, some (mi a1), some (mi a2), some (mi (S48 42 0)), none, none] dX6_answer_84 rfl rfl ?_
                refine y_aload_n 85 Y dX6_answer_85 rfl ?_
                refine y_iconst 86 Y dX6_answer_86 rfl ?_
                refine y_iload_n 87 Y dX6_answer_87 rfl ?_
                refine y_call 88 Y (as := [mi 3, mi a2]) [] dX6_answer_88 rfl rfl rfl rfl rfl h (fun r S50 hq hI _ => ?_)
                obtain ⟨rfl, h⟩ := Qv_ok hq
                replace h := h hI
                clear hq
                obtain ⟨n1, h⟩ := h
                exact Wk 91 _ [some mt, none, none, some (mi (S48 42 0)), none, none] _ _ ⟨rfl, ⟨rfl, trivial⟩⟩ (hIc n1 _ _ _ _ (Or.inl (⟨rfl, _, rfl, rfl, h⟩)))
              · replace h := h.2 c
                refine y_aload_n 74 Y dX6_answer_74 rfl ?_
                refine y_bipush 75 Y dX6_answer_75 rfl ?_
                refine y_call 77 Y (as := [mi 45]) [] dX6_answer_77 rfl rfl rfl rfl rfl h (fun r S51 hq hI _ => ?_)
                obtain ⟨rfl, h⟩ := Qv_ok hq
                replace h := h hI
                clear hq
                refine y_aload_n 80 Y dX6_answer_80 rfl ?_
                refine y_getf 81 Y 42 dX6_answer_81 rfl rfl (fun _ => ?_)
                refine y_istore_n 84 Y [some mt, some (mi a1), some (mi a2), some (mi (S51 42 0)), none, none] dX6_answer_84 rfl rfl ?_
                refine y_aload_n 85 Y dX6_answer_85 rfl ?_
                refine y_iconst 86 Y dX6_answer_86 rfl ?_
                refine y_iload_n 87 Y dX6_answer_87 rfl ?_
                refine y_call 88 Y (as := [mi 3, mi a2]) [] dX6_answer_88 rfl rfl rfl rfl rfl h (fun r S52 hq hI _ => ?_)
                obtain ⟨rfl, h⟩ := Qv_ok hq
                replace h := h hI
                clear hq
                obtain ⟨n1, h⟩ := h
                exact Wk 91 _ [some mt, none, none, some (mi (S51 42 0)), none, none] _ _ ⟨rfl, ⟨rfl, trivial⟩⟩ (hIc n1 _ _ _ _ (Or.inl (⟨rfl, _, rfl, rfl, h⟩)))
        · replace h := h.2 c
          refine y_iconst 33 Y dX6_answer_33 rfl ?_
          exact y_iret 34 Y dX6_answer_34 rfl h
  · intro n pc L st T hi hS hL P Y Wk hIc
    clear hE
    rcases hi with ⟨rfl, l3, rfl, rfl, hi⟩ | ⟨rfl, l3, l4, rfl, rfl, hi⟩
    · have h := h91 n l3 T hS (hL 3 _ rfl) hi
      clear hL hi h91 h167
      refine y_aload_n 91 Y dX6_answer_91 rfl ?_
      refine y_iconst 92 Y dX6_answer_92 rfl ?_
      refine y_iconst 93 Y dX6_answer_93 rfl ?_
      refine y_iconst 94 Y dX6_answer_94 rfl ?_
      refine y_iconst 95 Y dX6_answer_95 rfl ?_
      refine y_call 96 Y (as := [mi 4, mi 5, mi 2, mi 3]) [] dX6_answer_96 rfl rfl rfl rfl rfl h (fun r S1 hq hI _ => ?_)
      obtain ⟨rfl, h⟩ := Qv_ok hq
      replace h := h hI
      clear hq
      refine y_aload_n 99 Y dX6_answer_99 rfl ?_
      refine y_geta 100 Y 2 dX6_answer_100 rfl rfl ?_
      refine y_iconst 103 Y dX6_answer_103 rfl ?_
      refine y_iald 104 Y dX6_answer_104 rfl rfl (by decide) (by decide) (fun _ => ?_)
      refine y_if 105 112 Y dX6_answer_105 rfl rfl (fun c => ?_) (fun c => ?_)
      · replace h := h.1 c
        refine y_aload_n 112 Y dX6_answer_112 rfl ?_
        refine y_geta 113 Y 1 dX6_answer_113 rfl rfl ?_
        refine y_sipush 116 Y dX6_answer_116 rfl ?_
        refine y_iald 119 Y dX6_answer_119 rfl rfl (by decide) (by decide) (fun _ => ?_)
        refine y_istore 120 Y [some mt, none, none, some (mi l3), some (mi (S1 1 2200)), none] dX6_answer_120 rfl rfl ?_
        refine y_aload_n 122 Y dX6_answer_122 rfl ?_
        refine y_iload 123 Y dX6_answer_123 rfl ?_
        refine y_bipush 125 Y dX6_answer_125 rfl ?_
        refine y_icmp 127 138 Y dX6_answer_127 rfl rfl (fun c => ?_) (fun c => ?_)
        · replace h := h.1 c
          refine y_bipush 138 Y dX6_answer_138 rfl ?_
          refine y_iload 140 Y dX6_answer_140 rfl ?_
          obtain ⟨o2, h⟩ := h
          refine y_iadd 142 Y dX6_answer_142 o2 ?_
          refine y_bipush 143 Y dX6_answer_143 rfl ?_
          obtain ⟨o3, h⟩ := h
          refine y_isub 145 Y dX6_answer_145 o3 ?_
          refine y_call 146 Y (as := [mi ((97 + (S1 1 2200)) - 10)]) [] dX6_answer_146 rfl rfl rfl rfl rfl h (fun r S4 hq hI _ => ?_)
          obtain ⟨rfl, h⟩ := Qv_ok hq
          replace h := h hI
          clear hq
          refine y_aload_n 149 Y dX6_answer_149 rfl ?_
          refine y_iconst 150 Y dX6_answer_150 rfl ?_
          refine y_iconst 151 Y dX6_answer_151 rfl ?_
          refine y_call 152 Y (as := [mi 2, mi 4]) [] dX6_answer_152 rfl rfl rfl rfl rfl h (fun r S5 hq hI _ => ?_)
          obtain ⟨rfl, h⟩ := Qv_ok hq
          replace h := h hI
          clear hq
          refine y_aload_n 155 Y dX6_answer_155 rfl ?_
          refine y_geta 156 Y 2 dX6_answer_156 rfl rfl ?_
          refine y_iconst 159 Y dX6_answer_159 rfl ?_
          refine y_iald 160 Y dX6_answer_160 rfl rfl (by decide) (by decide) (fun _ => ?_)
          refine y_if 161 91 Y dX6_answer_161 rfl rfl (fun c => ?_) (fun c => ?_)
          · replace h := h.1 c
            obtain ⟨n1, hn, h⟩ := h
            exact Wk 91 _ [some mt, none, none, some (mi l3), none, none] _ _ ⟨rfl, ⟨rfl, trivial⟩⟩ (hIc n1 _ _ _ _ hn (Or.inl (⟨rfl, _, rfl, rfl, h⟩)))
          · replace h := h.2 c
            refine y_iconst 164 Y dX6_answer_164 rfl ?_
            refine y_istore 165 Y [some mt, none, none, some (mi l3), some (mi 0), none] dX6_answer_165 rfl rfl ?_
            obtain ⟨n1, hn, h⟩ := h
            exact Wk 167 _ [some mt, none, none, some (mi l3), some (mi 0), none] _ _ ⟨rfl, ⟨rfl, ⟨rfl, trivial⟩⟩⟩ (hIc n1 _ _ _ _ hn (Or.inr ((⟨rfl, _, _, rfl, rfl, h⟩))))
        · replace h := h.2 c
          refine y_bipush 130 Y dX6_answer_130 rfl ?_
          refine y_iload 132 Y dX6_answer_132 rfl ?_
          obtain ⟨o6, h⟩ := h
          refine y_iadd 134 Y dX6_answer_134 o6 ?_
          refine y_goto 135 146 Y dX6_answer_135 rfl rfl ?_
          refine y_call 146 Y (as := [mi (48 + (S1 1 2200))]) [] dX6_answer_146 rfl rfl rfl rfl rfl h (fun r S7 hq hI _ => ?_)
          obtain ⟨rfl, h⟩ := Qv_ok hq
          replace h := h hI
          clear hq
          refine y_aload_n 149 Y dX6_answer_149 rfl ?_
          refine y_iconst 150 Y dX6_answer_150 rfl ?_
          refine y_iconst 151 Y dX6_answer_151 rfl ?_
          refine y_call 152 Y (as := [mi 2, mi 4]) [] dX6_answer_152 rfl rfl rfl rfl rfl h (fun r S8 hq hI _ => ?_)
          obtain ⟨rfl, h⟩ := Qv_ok hq
          replace h := h hI
          clear hq
          refine y_aload_n 155 Y dX6_answer_155 rfl ?_
          refine y_geta 156 Y 2 dX6_answer_156 rfl rfl ?_
          refine y_iconst 159 Y dX6_answer_159 rfl ?_
          refine y_iald 160 Y dX6_answer_160 rfl rfl (by decide) (by decide) (fun _ => ?_)
          refine y_if 161 91 Y dX6_answer_161 rfl rfl (fun c => ?_) (fun c => ?_)
          · replace h := h.1 c
            obtain ⟨n1, hn, h⟩ := h
            exact Wk 91 _ [some mt, none, none, some (mi l3), none, none] _ _ ⟨rfl, ⟨rfl, trivial⟩⟩ (hIc n1 _ _ _ _ hn (Or.inl (⟨rfl, _, rfl, rfl, h⟩)))
          · replace h := h.2 c
            refine y_iconst 164 Y dX6_answer_164 rfl ?_
            refine y_istore 165 Y [some mt, none, none, some (mi l3), some (mi 0), none] dX6_answer_165 rfl rfl ?_
            obtain ⟨n1, hn, h⟩ := h
            exact Wk 167 _ [some mt, none, none, some (mi l3), some (mi 0), none] _ _ ⟨rfl, ⟨rfl, ⟨rfl, trivial⟩⟩⟩ (hIc n1 _ _ _ _ hn (Or.inr ((⟨rfl, _, _, rfl, rfl, h⟩))))
      · replace h := h.2 c
        refine y_iconst 108 Y dX6_answer_108 rfl ?_
        refine y_goto 109 120 Y dX6_answer_109 rfl rfl ?_
        refine y_istore 120 Y [some mt, none, none, some (mi l3), some (mi 0), none] dX6_answer_120 rfl rfl ?_
        refine y_aload_n 122 Y dX6_answer_122 rfl ?_
        refine y_iload 123 Y dX6_answer_123 rfl ?_
        refine y_bipush 125 Y dX6_answer_125 rfl ?_
        refine y_icmp 127 138 Y dX6_answer_127 rfl rfl (fun c => absurd c (show ¬ ((10 : Int) ≤ 0) by decide)) (fun _ => ?_)
        refine y_bipush 130 Y dX6_answer_130 rfl ?_
        refine y_iload 132 Y dX6_answer_132 rfl ?_
        refine y_iadd 134 Y dX6_answer_134 (by decide) ?_
        refine y_goto 135 146 Y dX6_answer_135 rfl rfl ?_
        refine y_call 146 Y (as := [mi (48 + 0)]) [] dX6_answer_146 rfl rfl rfl rfl rfl h (fun r S9 hq hI _ => ?_)
        obtain ⟨rfl, h⟩ := Qv_ok hq
        replace h := h hI
        clear hq
        refine y_aload_n 149 Y dX6_answer_149 rfl ?_
        refine y_iconst 150 Y dX6_answer_150 rfl ?_
        refine y_iconst 151 Y dX6_answer_151 rfl ?_
        refine y_call 152 Y (as := [mi 2, mi 4]) [] dX6_answer_152 rfl rfl rfl rfl rfl h (fun r S10 hq hI _ => ?_)
        obtain ⟨rfl, h⟩ := Qv_ok hq
        replace h := h hI
        clear hq
        refine y_aload_n 155 Y dX6_answer_155 rfl ?_
        refine y_geta 156 Y 2 dX6_answer_156 rfl rfl ?_
        refine y_iconst 159 Y dX6_answer_159 rfl ?_
        refine y_iald 160 Y dX6_answer_160 rfl rfl (by decide) (by decide) (fun _ => ?_)
        refine y_if 161 91 Y dX6_answer_161 rfl rfl (fun c => ?_) (fun c => ?_)
        · replace h := h.1 c
          obtain ⟨n1, hn, h⟩ := h
          exact Wk 91 _ [some mt, none, none, some (mi l3), none, none] _ _ ⟨rfl, ⟨rfl, trivial⟩⟩ (hIc n1 _ _ _ _ hn (Or.inl (⟨rfl, _, rfl, rfl, h⟩)))
        · replace h := h.2 c
          refine y_iconst 164 Y dX6_answer_164 rfl ?_
          refine y_istore 165 Y [some mt, none, none, some (mi l3), some (mi 0), none] dX6_answer_165 rfl rfl ?_
          obtain ⟨n1, hn, h⟩ := h
          exact Wk 167 _ [some mt, none, none, some (mi l3), some (mi 0), none] _ _ ⟨rfl, ⟨rfl, ⟨rfl, trivial⟩⟩⟩ (hIc n1 _ _ _ _ hn (Or.inr ((⟨rfl, _, _, rfl, rfl, h⟩))))
    · have h := h167 n l3 l4 T hS (hL 3 _ rfl) (hL 4 _ rfl) hi
      clear hL hi h91 h167
      refine y_iload 167 Y dX6_answer_167 rfl ?_
      refine y_aload_n 169 Y dX6_answer_169 rfl ?_
      refine y_getf 170 Y 42 dX6_answer_170 rfl rfl (fun _ => ?_)
      refine y_iload_n 173 Y dX6_answer_173 rfl ?_
      obtain ⟨o1, h⟩ := h
      refine y_isub 174 Y dX6_answer_174 o1 ?_
      refine y_iconst 175 Y dX6_answer_175 rfl ?_
      obtain ⟨o2, h⟩ := h
      refine y_idiv 176 Y dX6_answer_176 o2 (by decide) ?_
      refine y_icmp 177 236 Y dX6_answer_177 rfl rfl (fun c => ?_) (fun c => ?_)
      · replace h := h.1 c
        refine y_aload_n 236 Y dX6_answer_236 rfl ?_
        refine y_getf 237 Y 42 dX6_answer_237 rfl rfl (fun _ => ?_)
        exact y_iret 240 Y dX6_answer_240 rfl h
      · replace h := h.2 c
        refine y_aload_n 180 Y dX6_answer_180 rfl ?_
        refine y_geta 181 Y 41 dX6_answer_181 rfl rfl ?_
        refine y_iload_n 184 Y dX6_answer_184 rfl ?_
        refine y_iload 185 Y dX6_answer_185 rfl ?_
        obtain ⟨o3, h⟩ := h
        refine y_iadd 187 Y dX6_answer_187 o3 ?_
        obtain ⟨o4, h⟩ := h
        obtain ⟨o5, h⟩ := h
        refine y_iald 188 Y dX6_answer_188 rfl rfl o4 o5 (fun _ => ?_)
        refine y_istore 189 Y [some mt, none, none, some (mi l3), some (mi l4), some (mi (T 41 (l3 + l4)))] dX6_answer_189 rfl rfl ?_
        refine y_aload_n 191 Y dX6_answer_191 rfl ?_
        refine y_geta 192 Y 41 dX6_answer_192 rfl rfl ?_
        refine y_iload_n 195 Y dX6_answer_195 rfl ?_
        refine y_iload 196 Y dX6_answer_196 rfl ?_
        refine y_iadd 198 Y dX6_answer_198 o3 ?_
        refine y_aload_n 199 Y dX6_answer_199 rfl ?_
        refine y_geta 200 Y 41 dX6_answer_200 rfl rfl ?_
        refine y_aload_n 203 Y dX6_answer_203 rfl ?_
        refine y_getf 204 Y 42 dX6_answer_204 rfl rfl (fun _ => ?_)
        refine y_iconst 207 Y dX6_answer_207 rfl ?_
        obtain ⟨o6, h⟩ := h
        refine y_isub 208 Y dX6_answer_208 o6 ?_
        refine y_iload 209 Y dX6_answer_209 rfl ?_
        obtain ⟨o7, h⟩ := h
        refine y_isub 211 Y dX6_answer_211 o7 ?_
        obtain ⟨o8, h⟩ := h
        obtain ⟨o9, h⟩ := h
        refine y_iald 212 Y dX6_answer_212 rfl rfl o8 o9 (fun _ => ?_)
        refine y_iast 213 Y dX6_answer_213 rfl rfl o4 o5 ?_
        refine y_aload_n 214 Y dX6_answer_214 rfl ?_
        refine y_geta 215 Y 41 dX6_answer_215 rfl rfl ?_
        refine y_aload_n 218 Y dX6_answer_218 rfl ?_
        refine y_getf 219 Y 42 dX6_answer_219 rfl rfl (fun _ => ?_)
        refine y_iconst 222 Y dX6_answer_222 rfl ?_
        refine y_isub 223 Y dX6_answer_223 o6 ?_
        refine y_iload 224 Y dX6_answer_224 rfl ?_
        refine y_isub 226 Y dX6_answer_226 o7 ?_
        refine y_iload 227 Y dX6_answer_227 rfl ?_
        refine y_iast 229 Y dX6_answer_229 rfl rfl o8 o9 ?_
        obtain ⟨o10, h⟩ := h
        refine y_iinc 230 Y [some mt, none, none, some (mi l3), some (mi (l4 + 1)), some (mi (T 41 (l3 + l4)))] dX6_answer_230 rfl rfl o10 ?_
        refine y_goto 233 167 Y dX6_answer_233 rfl rfl ?_
        obtain ⟨n1, hn, h⟩ := h
        exact Wk 167 _ [some mt, none, none, some (mi l3), some (mi (l4 + 1)), none] _ _ ⟨rfl, ⟨rfl, ⟨rfl, trivial⟩⟩⟩ (hIc n1 _ _ _ _ hn (Or.inr ((⟨rfl, _, _, rfl, rfl, h⟩))))
set_option maxHeartbeats 4000000 in
theorem of_areTold {g : mG} {S : mS} {a1 : Int} {Qp : Option mV → mS → Prop} (I4 : Nat → Int → Int → Int → mS → Prop)
    (hE : mI S → (-2147483648 ≤ a1 ∧ a1 ≤ 2147483647) → (∃ n1, I4 n1 a1 1 a1 S))
    (h4 : ∀ (n : Nat) (l1 l2 l3 : Int) (T : mS), mI T → (-2147483648 ≤ l1 ∧ l1 ≤ 2147483647) → (-2147483648 ≤ l2 ∧ l2 ≤ 2147483647) → (-2147483648 ≤ l3 ∧ l3 ≤ 2147483647) → I4 n l1 l2 l3 T → (0 ≤ l1) ∧ (l1 < 20300) ∧ (-2147483648 ≤ ((l1 + (T 8 l1)) : Int) ∧ (l1 + (T 8 l1)) ≤ 2147483647) ∧ (((l1 + (T 8 l1)) ≤ l3) → (l2 = 0 ∨ l2 = 1) ∧ Qp (some (mi l2)) T) ∧ (¬ ((l1 + (T 8 l1)) ≤ l3) → ((l2 = 0) → (-2147483648 ≤ ((l3 + 1) : Int) ∧ (l3 + 1) ≤ 2147483647) ∧ (∃ n1, n1 < n ∧ I4 n1 l1 0 (l3 + 1) T)) ∧ (¬ (l2 = 0) → CX_isTold g [mt, mi l3] T (Qi fun v6 S5 => mI S5 → (-2147483648 ≤ v6 ∧ v6 ≤ 2147483647) → ((v6 = 0) → (-2147483648 ≤ ((l3 + 1) : Int) ∧ (l3 + 1) ≤ 2147483647) ∧ (∃ n1, n1 < n ∧ I4 n1 l1 0 (l3 + 1) S5)) ∧ (¬ (v6 = 0) → (-2147483648 ≤ ((l3 + 1) : Int) ∧ (l3 + 1) ≤ 2147483647) ∧ (∃ n1, n1 < n ∧ I4 n1 l1 1 (l3 + 1) S5))))))
    : CX_areTold g [mt, mi a1] S Qp := by
  refine cm_y ⟨by decide, rfl⟩ (by simp [mcat]) (by simp) (fun n pc L st S => (pc = 4 ∧ ∃ (l1 : Int) (l2 : Int) (l3 : Int), L = [some mt, some (mi l1), some (mi l2), some (mi l3)] ∧ st = [] ∧ I4 n l1 l2 l3 S)) ?_ ?_
  · intro ha hS P Y Wk hIc
    have h := hE hS (mokI (ha (mi a1) (by simp)))
    clear hE ha h4
    refine y_iconst 0 Y dX6_areTold_0 rfl ?_
    refine y_istore_n 1 Y [some mt, some (mi a1), some (mi 1), none] dX6_areTold_1 rfl rfl ?_
    refine y_iload_n 2 Y dX6_areTold_2 rfl ?_
    refine y_istore_n 3 Y [some mt, some (mi a1), some (mi 1), some (mi a1)] dX6_areTold_3 rfl rfl ?_
    obtain ⟨n1, h⟩ := h
    exact Wk 4 _ [some mt, some (mi a1), some (mi 1), some (mi a1)] _ _ ⟨rfl, ⟨rfl, ⟨rfl, ⟨rfl, trivial⟩⟩⟩⟩ (hIc n1 _ _ _ _ ((⟨rfl, _, _, _, rfl, rfl, h⟩)))
  · intro n pc L st T hi hS hL P Y Wk hIc
    clear hE
    rcases hi with ⟨rfl, l1, l2, l3, rfl, rfl, hi⟩
    · have h := h4 n l1 l2 l3 T hS (hL 1 _ rfl) (hL 2 _ rfl) (hL 3 _ rfl) hi
      clear hL hi h4
      refine y_iload_n 4 Y dX6_areTold_4 rfl ?_
      refine y_iload_n 5 Y dX6_areTold_5 rfl ?_
      refine y_aload_n 6 Y dX6_areTold_6 rfl ?_
      refine y_geta 7 Y 8 dX6_areTold_7 rfl rfl ?_
      refine y_iload_n 10 Y dX6_areTold_10 rfl ?_
      obtain ⟨o1, h⟩ := h
      obtain ⟨o2, h⟩ := h
      refine y_iald 11 Y dX6_areTold_11 rfl rfl o1 o2 (fun _ => ?_)
      obtain ⟨o3, h⟩ := h
      refine y_iadd 12 Y dX6_areTold_12 o3 ?_
      refine y_icmp 13 40 Y dX6_areTold_13 rfl rfl (fun c => ?_) (fun c => ?_)
      · replace h := h.1 c
        refine y_iload_n 40 Y dX6_areTold_40 rfl ?_
        exact y_zret 41 Y dX6_areTold_41 rfl h.1 h.2
      · replace h := h.2 c
        refine y_iload_n 16 Y dX6_areTold_16 rfl ?_
        refine y_if 17 32 Y dX6_areTold_17 rfl rfl (fun c => ?_) (fun c => ?_)
        · replace h := h.1 c
          refine y_iconst 32 Y dX6_areTold_32 rfl ?_
          refine y_istore_n 33 Y [some mt, some (mi l1), some (mi 0), some (mi l3)] dX6_areTold_33 rfl rfl ?_
          obtain ⟨o4, h⟩ := h
          refine y_iinc 34 Y [some mt, some (mi l1), some (mi 0), some (mi (l3 + 1))] dX6_areTold_34 rfl rfl o4 ?_
          refine y_goto 37 4 Y dX6_areTold_37 rfl rfl ?_
          obtain ⟨n1, hn, h⟩ := h
          exact Wk 4 _ [some mt, some (mi l1), some (mi 0), some (mi (l3 + 1))] _ _ ⟨rfl, ⟨rfl, ⟨rfl, ⟨rfl, trivial⟩⟩⟩⟩ (hIc n1 _ _ _ _ hn ((⟨rfl, _, _, _, rfl, rfl, h⟩)))
        · replace h := h.2 c
          refine y_aload_n 20 Y dX6_areTold_20 rfl ?_
          refine y_iload_n 21 Y dX6_areTold_21 rfl ?_
          refine y_call 22 Y (as := [mi l3]) [] dX6_areTold_22 rfl rfl rfl rfl rfl h (fun r S5 hq hI hr => ?_)
          obtain ⟨v6, rfl, h⟩ := Qi_ok hq
          replace h := h hI (mokI (hr _ rfl))
          clear hq hr
          refine y_if 25 32 Y dX6_areTold_25 rfl rfl (fun c => ?_) (fun c => ?_)
          · replace h := h.1 c
            refine y_iconst 32 Y dX6_areTold_32 rfl ?_
            refine y_istore_n 33 Y [some mt, some (mi l1), some (mi 0), some (mi l3)] dX6_areTold_33 rfl rfl ?_
            obtain ⟨o7, h⟩ := h
            refine y_iinc 34 Y [some mt, some (mi l1), some (mi 0), some (mi (l3 + 1))] dX6_areTold_34 rfl rfl o7 ?_
            refine y_goto 37 4 Y dX6_areTold_37 rfl rfl ?_
            obtain ⟨n1, hn, h⟩ := h
            exact Wk 4 _ [some mt, some (mi l1), some (mi 0), some (mi (l3 + 1))] _ _ ⟨rfl, ⟨rfl, ⟨rfl, ⟨rfl, trivial⟩⟩⟩⟩ (hIc n1 _ _ _ _ hn ((⟨rfl, _, _, _, rfl, rfl, h⟩)))
          · replace h := h.2 c
            refine y_iconst 28 Y dX6_areTold_28 rfl ?_
            refine y_goto 29 33 Y dX6_areTold_29 rfl rfl ?_
            refine y_istore_n 33 Y [some mt, some (mi l1), some (mi 1), some (mi l3)] dX6_areTold_33 rfl rfl ?_
            obtain ⟨o8, h⟩ := h
            refine y_iinc 34 Y [some mt, some (mi l1), some (mi 1), some (mi (l3 + 1))] dX6_areTold_34 rfl rfl o8 ?_
            refine y_goto 37 4 Y dX6_areTold_37 rfl rfl ?_
            obtain ⟨n1, hn, h⟩ := h
            exact Wk 4 _ [some mt, some (mi l1), some (mi 1), some (mi (l3 + 1))] _ _ ⟨rfl, ⟨rfl, ⟨rfl, ⟨rfl, trivial⟩⟩⟩⟩ (hIc n1 _ _ _ _ hn ((⟨rfl, _, _, _, rfl, rfl, h⟩)))
set_option maxHeartbeats 4000000 in
theorem of_clear {g : mG} {S : mS} {a1 : Int} {Qp : Option mV → mS → Prop} (I2 : Nat → Int → Int → mS → Prop)
    (hE : mI S → (-2147483648 ≤ a1 ∧ a1 ≤ 2147483647) → (∃ n1, I2 n1 a1 0 S))
    (h2 : ∀ (n : Nat) (l1 l2 : Int) (T : mS), mI T → (-2147483648 ≤ l1 ∧ l1 ≤ 2147483647) → (-2147483648 ≤ l2 ∧ l2 ≤ 2147483647) → I2 n l1 l2 T → ((9 ≤ l2) → Qp none T) ∧ (¬ (9 ≤ l2) → CX_coefficientAt g [mi l1, mi l2] T (Qi fun v2 S1 => mI S1 → (-2147483648 ≤ v2 ∧ v2 ≤ 2147483647) → CX_setInt g [mt, mi v2, mi 0] S1 (Qv fun S3 => mI S3 → (-2147483648 ≤ ((l2 + 1) : Int) ∧ (l2 + 1) ≤ 2147483647) ∧ (∃ n1, n1 < n ∧ I2 n1 l1 (l2 + 1) S3)))))
    : CX_clear g [mt, mi a1] S Qp := by
  refine cm_y ⟨by decide, rfl⟩ (by simp [mcat]) (by simp) (fun n pc L st S => (pc = 2 ∧ ∃ (l1 : Int) (l2 : Int), L = [some mt, some (mi l1), some (mi l2)] ∧ st = [] ∧ I2 n l1 l2 S)) ?_ ?_
  · intro ha hS P Y Wk hIc
    have h := hE hS (mokI (ha (mi a1) (by simp)))
    clear hE ha h2
    refine y_iconst 0 Y dX6_clear_0 rfl ?_
    refine y_istore_n 1 Y [some mt, some (mi a1), some (mi 0)] dX6_clear_1 rfl rfl ?_
    obtain ⟨n1, h⟩ := h
    exact Wk 2 _ [some mt, some (mi a1), some (mi 0)] _ _ ⟨rfl, ⟨rfl, ⟨rfl, trivial⟩⟩⟩ (hIc n1 _ _ _ _ ((⟨rfl, _, _, rfl, rfl, h⟩)))
  · intro n pc L st T hi hS hL P Y Wk hIc
    clear hE
    rcases hi with ⟨rfl, l1, l2, rfl, rfl, hi⟩
    · have h := h2 n l1 l2 T hS (hL 1 _ rfl) (hL 2 _ rfl) hi
      clear hL hi h2
      refine y_iload_n 2 Y dX6_clear_2 rfl ?_
      refine y_bipush 3 Y dX6_clear_3 rfl ?_
      refine y_icmp 5 24 Y dX6_clear_5 rfl rfl (fun c => ?_) (fun c => ?_)
      · replace h := h.1 c
        exact y_ret 24 Y dX6_clear_24 rfl h
      · replace h := h.2 c
        refine y_aload_n 8 Y dX6_clear_8 rfl ?_
        refine y_iload_n 9 Y dX6_clear_9 rfl ?_
        refine y_iload_n 10 Y dX6_clear_10 rfl ?_
        refine y_calls 11 Y (as := [mi l1, mi l2]) [mt] dX6_clear_11 rfl rfl rfl rfl rfl h (fun r S1 hq hI hr => ?_)
        obtain ⟨v2, rfl, h⟩ := Qi_ok hq
        replace h := h hI (mokI (hr _ rfl))
        clear hq hr
        refine y_iconst 14 Y dX6_clear_14 rfl ?_
        refine y_call 15 Y (as := [mi v2, mi 0]) [] dX6_clear_15 rfl rfl rfl rfl rfl h (fun r S3 hq hI _ => ?_)
        obtain ⟨rfl, h⟩ := Qv_ok hq
        replace h := h hI
        clear hq
        obtain ⟨o4, h⟩ := h
        refine y_iinc 18 Y [some mt, some (mi l1), some (mi (l2 + 1))] dX6_clear_18 rfl rfl o4 ?_
        refine y_goto 21 2 Y dX6_clear_21 rfl rfl ?_
        obtain ⟨n1, hn, h⟩ := h
        exact Wk 2 _ [some mt, some (mi l1), some (mi (l2 + 1))] _ _ ⟨rfl, ⟨rfl, ⟨rfl, trivial⟩⟩⟩ (hIc n1 _ _ _ _ hn ((⟨rfl, _, _, rfl, rfl, h⟩)))
set_option maxHeartbeats 4000000 in
theorem of_compareValues {g : mG} {S : mS} {a1 a2 : Int} {Qp : Option mV → mS → Prop}
    (hE : mI S → (-2147483648 ≤ a1 ∧ a1 ≤ 2147483647) → (-2147483648 ≤ a2 ∧ a2 ≤ 2147483647) → CX_sign_2 g [mt, mi a1] S (Qi fun v2 S1 => mI S1 → (-2147483648 ≤ v2 ∧ v2 ≤ 2147483647) → CX_sign_2 g [mt, mi a2] S1 (Qi fun v4 S3 => mI S3 → (-2147483648 ≤ v4 ∧ v4 ≤ 2147483647) → ((v2 = v4) → CX_loadNumerator g [mt, mi 2, mi a1] S3 (Qv fun S5 => mI S5 → CX_loadDenominator g [mt, mi 3, mi a1] S5 (Qv fun S6 => mI S6 → CX_loadNumerator g [mt, mi 4, mi a2] S6 (Qv fun S7 => mI S7 → CX_loadDenominator g [mt, mi 5, mi a2] S7 (Qv fun S8 => mI S8 → CX_times g [mt, mi 6, mi 2, mi 5] S8 (Qv fun S9 => mI S9 → CX_times g [mt, mi 7, mi 4, mi 3] S9 (Qv fun S10 => mI S10 → CX_sign_2 g [mt, mi a1] S10 (Qi fun v12 S11 => mI S11 → (-2147483648 ≤ v12 ∧ v12 ≤ 2147483647) → CX_compare g [mt, mi 6, mi 7] S11 (Qi fun v14 S13 => mI S13 → (-2147483648 ≤ v14 ∧ v14 ≤ 2147483647) → (-2147483648 ≤ ((v12 * v14) : Int) ∧ (v12 * v14) ≤ 2147483647) ∧ Qp (some (mi (v12 * v14))) S13))))))))) ∧ (¬ (v2 = v4) → CX_sign_2 g [mt, mi a1] S3 (Qi fun v17 S16 => mI S16 → (-2147483648 ≤ v17 ∧ v17 ≤ 2147483647) → CX_sign_2 g [mt, mi a2] S16 (Qi fun v19 S18 => mI S18 → (-2147483648 ≤ v19 ∧ v19 ≤ 2147483647) → ((v19 ≤ v17) → Qp (some (mi 1)) S18) ∧ (¬ (v19 ≤ v17) → Qp (some (mi (-1))) S18)))))))
    : CX_compareValues g [mt, mi a1, mi a2] S Qp := by
  refine cm_y ⟨by decide, rfl⟩ (by simp [mcat]) (by simp) (fun _ _ _ _ _ => False) ?_ ?_
  · intro ha hS P Y Wk hIc
    have h := hE hS (mokI (ha (mi a1) (by simp))) (mokI (ha (mi a2) (by simp)))
    clear hE ha
    refine y_aload_n 0 Y dX6_compareValues_0 rfl ?_
    refine y_iload_n 1 Y dX6_compareValues_1 rfl ?_
    refine y_call 2 Y (as := [mi a1]) [] dX6_compareValues_2 rfl rfl rfl rfl rfl h (fun r S1 hq hI hr => ?_)
    obtain ⟨v2, rfl, h⟩ := Qi_ok hq
    replace h := h hI (mokI (hr _ rfl))
    clear hq hr
    refine y_aload_n 5 Y dX6_compareValues_5 rfl ?_
    refine y_iload_n 6 Y dX6_compareValues_6 rfl ?_
    refine y_call 7 Y (as := [mi a2]) [mi v2] dX6_compareValues_7 rfl rfl rfl rfl rfl h (fun r S3 hq hI hr => ?_)
    obtain ⟨v4, rfl, h⟩ := Qi_ok hq
    replace h := h hI (mokI (hr _ rfl))
    clear hq hr
    refine y_icmp 10 32 Y dX6_compareValues_10 rfl rfl (fun c => ?_) (fun c => ?_)
    · replace h := h.1 c
      refine y_aload_n 32 Y dX6_compareValues_32 rfl ?_
      refine y_iconst 33 Y dX6_compareValues_33 rfl ?_
      refine y_iload_n 34 Y dX6_compareValues_34 rfl ?_
      refine y_call 35 Y (as := [mi 2, mi a1]) [] dX6_compareValues_35 rfl rfl rfl rfl rfl h (fun r S5 hq hI _ => ?_)
      obtain ⟨rfl, h⟩ := Qv_ok hq
      replace h := h hI
      clear hq
      refine y_aload_n 38 Y dX6_compareValues_38 rfl ?_
      refine y_iconst 39 Y dX6_compareValues_39 rfl ?_
      refine y_iload_n 40 Y dX6_compareValues_40 rfl ?_
      refine y_call 41 Y (as := [mi 3, mi a1]) [] dX6_compareValues_41 rfl rfl rfl rfl rfl h (fun r S6 hq hI _ => ?_)
      obtain ⟨rfl, h⟩ := Qv_ok hq
      replace h := h hI
      clear hq
      refine y_aload_n 44 Y dX6_compareValues_44 rfl ?_
      refine y_iconst 45 Y dX6_compareValues_45 rfl ?_
      refine y_iload_n 46 Y dX6_compareValues_46 rfl ?_
      refine y_call 47 Y (as := [mi 4, mi a2]) [] dX6_compareValues_47 rfl rfl rfl rfl rfl h (fun r S7 hq hI _ => ?_)
      obtain ⟨rfl, h⟩ := Qv_ok hq
      replace h := h hI
      clear hq
      refine y_aload_n 50 Y dX6_compareValues_50 rfl ?_
      refine y_iconst 51 Y dX6_compareValues_51 rfl ?_
      refine y_iload_n 52 Y dX6_compareValues_52 rfl ?_
      refine y_call 53 Y (as := [mi 5, mi a2]) [] dX6_compareValues_53 rfl rfl rfl rfl rfl h (fun r S8 hq hI _ => ?_)
      obtain ⟨rfl, h⟩ := Qv_ok hq
      replace h := h hI
      clear hq
      refine y_aload_n 56 Y dX6_compareValues_56 rfl ?_
      refine y_bipush 57 Y dX6_compareValues_57 rfl ?_
      refine y_iconst 59 Y dX6_compareValues_59 rfl ?_
      refine y_iconst 60 Y dX6_compareValues_60 rfl ?_
      refine y_call 61 Y (as := [mi 6, mi 2, mi 5]) [] dX6_compareValues_61 rfl rfl rfl rfl rfl h (fun r S9 hq hI _ => ?_)
      obtain ⟨rfl, h⟩ := Qv_ok hq
      replace h := h hI
      clear hq
      refine y_aload_n 64 Y dX6_compareValues_64 rfl ?_
      refine y_bipush 65 Y dX6_compareValues_65 rfl ?_
      refine y_iconst 67 Y dX6_compareValues_67 rfl ?_
      refine y_iconst 68 Y dX6_compareValues_68 rfl ?_
      refine y_call 69 Y (as := [mi 7, mi 4, mi 3]) [] dX6_compareValues_69 rfl rfl rfl rfl rfl h (fun r S10 hq hI _ => ?_)
      obtain ⟨rfl, h⟩ := Qv_ok hq
      replace h := h hI
      clear hq
      refine y_aload_n 72 Y dX6_compareValues_72 rfl ?_
      refine y_iload_n 73 Y dX6_compareValues_73 rfl ?_
      refine y_call 74 Y (as := [mi a1]) [] dX6_compareValues_74 rfl rfl rfl rfl rfl h (fun r S11 hq hI hr => ?_)
      obtain ⟨v12, rfl, h⟩ := Qi_ok hq
      replace h := h hI (mokI (hr _ rfl))
      clear hq hr
      refine y_aload_n 77 Y dX6_compareValues_77 rfl ?_
      refine y_bipush 78 Y dX6_compareValues_78 rfl ?_
      refine y_bipush 80 Y dX6_compareValues_80 rfl ?_
      refine y_call 82 Y (as := [mi 6, mi 7]) [mi v12] dX6_compareValues_82 rfl rfl rfl rfl rfl h (fun r S13 hq hI hr => ?_)
      obtain ⟨v14, rfl, h⟩ := Qi_ok hq
      replace h := h hI (mokI (hr _ rfl))
      clear hq hr
      obtain ⟨o15, h⟩ := h
      refine y_imul 85 Y dX6_compareValues_85 o15 ?_
      exact y_iret 86 Y dX6_compareValues_86 rfl h
    · replace h := h.2 c
      refine y_aload_n 13 Y dX6_compareValues_13 rfl ?_
      refine y_iload_n 14 Y dX6_compareValues_14 rfl ?_
      refine y_call 15 Y (as := [mi a1]) [] dX6_compareValues_15 rfl rfl rfl rfl rfl h (fun r S16 hq hI hr => ?_)
      obtain ⟨v17, rfl, h⟩ := Qi_ok hq
      replace h := h hI (mokI (hr _ rfl))
      clear hq hr
      refine y_aload_n 18 Y dX6_compareValues_18 rfl ?_
      refine y_iload_n 19 Y dX6_compareValues_19 rfl ?_
      refine y_call 20 Y (as := [mi a2]) [mi v17] dX6_compareValues_20 rfl rfl rfl rfl rfl h (fun r S18 hq hI hr => ?_)
      obtain ⟨v19, rfl, h⟩ := Qi_ok hq
      replace h := h hI (mokI (hr _ rfl))
      clear hq hr
      refine y_icmp 23 30 Y dX6_compareValues_23 rfl rfl (fun c => ?_) (fun c => ?_)
      · replace h := h.1 c
        refine y_iconst 30 Y dX6_compareValues_30 rfl ?_
        exact y_iret 31 Y dX6_compareValues_31 rfl h
      · replace h := h.2 c
        refine y_iconst 26 Y dX6_compareValues_26 rfl ?_
        refine y_goto 27 31 Y dX6_compareValues_27 rfl rfl ?_
        exact y_iret 31 Y dX6_compareValues_31 rfl h
  · intro n pc L st T hi
    exact hi.elim

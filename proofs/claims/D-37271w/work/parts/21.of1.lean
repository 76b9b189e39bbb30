/-! Contracts out of conditions; printed by gen_vc.py. -/
set_option maxRecDepth 100000
set_option maxHeartbeats 4000000 in
theorem of_areSame {g : mG} {S : mS} {a1 a2 : Int} {Qp : Option mV → mS → Prop} (I32 : Nat → Int → Int → Int → Int → Int → mS → Prop)
    (hE : mI S → (-2147483648 ≤ a1 ∧ a1 ≤ 2147483647) → (-2147483648 ≤ a2 ∧ a2 ≤ 2147483647) → (0 ≤ a1) ∧ (a1 < 20300) ∧ (0 ≤ a2) ∧ (a2 < 20300) ∧ (((S 8 a1) ≠ (S 8 a2)) → (∃ n1, I32 n1 a1 a2 0 (S 8 a1) 0 S)) ∧ (¬ ((S 8 a1) ≠ (S 8 a2)) → (∃ n1, I32 n1 a1 a2 1 (S 8 a1) 0 S)))
    (h32 : ∀ (n : Nat) (l1 l2 l3 l4 l5 : Int) (T : mS), mI T → (-2147483648 ≤ l1 ∧ l1 ≤ 2147483647) → (-2147483648 ≤ l2 ∧ l2 ≤ 2147483647) → (-2147483648 ≤ l3 ∧ l3 ≤ 2147483647) → (-2147483648 ≤ l4 ∧ l4 ≤ 2147483647) → (-2147483648 ≤ l5 ∧ l5 ≤ 2147483647) → I32 n l1 l2 l3 l4 l5 T → ((l4 ≤ l5) → (l3 = 0 ∨ l3 = 1) ∧ Qp (some (mi l3)) T) ∧ (¬ (l4 ≤ l5) → ((l3 = 0) → (l3 = 0 ∨ l3 = 1) ∧ Qp (some (mi l3)) T) ∧ (¬ (l3 = 0) → (-2147483648 ≤ ((l1 + l5) : Int) ∧ (l1 + l5) ≤ 2147483647) ∧ (0 ≤ (l1 + l5)) ∧ ((l1 + l5) < 20300) ∧ (-2147483648 ≤ ((l2 + l5) : Int) ∧ (l2 + l5) ≤ 2147483647) ∧ (0 ≤ (l2 + l5)) ∧ ((l2 + l5) < 20300) ∧ (((T 4 (l1 + l5)) ≠ (T 4 (l2 + l5))) → (-2147483648 ≤ ((l5 + 1) : Int) ∧ (l5 + 1) ≤ 2147483647) ∧ (∃ n1, n1 < n ∧ I32 n1 l1 l2 0 l4 (l5 + 1) T)) ∧ (¬ ((T 4 (l1 + l5)) ≠ (T 4 (l2 + l5))) → (((T 5 (l1 + l5)) ≠ (T 5 (l2 + l5))) → (-2147483648 ≤ ((l5 + 1) : Int) ∧ (l5 + 1) ≤ 2147483647) ∧ (∃ n1, n1 < n ∧ I32 n1 l1 l2 0 l4 (l5 + 1) T)) ∧ (¬ ((T 5 (l1 + l5)) ≠ (T 5 (l2 + l5))) → (((T 6 (l1 + l5)) ≠ (T 6 (l2 + l5))) → (-2147483648 ≤ ((l5 + 1) : Int) ∧ (l5 + 1) ≤ 2147483647) ∧ (∃ n1, n1 < n ∧ I32 n1 l1 l2 0 l4 (l5 + 1) T)) ∧ (¬ ((T 6 (l1 + l5)) ≠ (T 6 (l2 + l5))) → (((T 7 (l1 + l5)) ≠ (T 7 (l2 + l5))) → (-2147483648 ≤ ((l5 + 1) : Int) ∧ (l5 + 1) ≤ 2147483647) ∧ (∃ n1, n1 < n ∧ I32 n1 l1 l2 0 l4 (l5 + 1) T)) ∧ (¬ ((T 7 (l1 + l5)) ≠ (T 7 (l2 + l5))) → (-2147483648 ≤ ((l5 + 1) : Int) ∧ (l5 + 1) ≤ 2147483647) ∧ (∃ n1, n1 < n ∧ I32 n1 l1 l2 1 l4 (l5 + 1) T))))))))
    : CX_areSame g [mt, mi a1, mi a2] S Qp := by
  refine cm_y ⟨by decide, rfl⟩ (by simp [mcat]) (by simp) (fun n pc L st S => (pc = 32 ∧ ∃ (l1 : Int) (l2 : Int) (l3 : Int) (l4 : Int) (l5 : Int), L = [some mt, some (mi l1), some (mi l2), some (mi l3), some (mi l4), some (mi l5)] ∧ st = [] ∧ I32 n l1 l2 l3 l4 l5 S)) ?_ ?_
  · intro ha hS P Y Wk hIc
    have h := hE hS (mokI (ha (mi a1) (by simp))) (mokI (ha (mi a2) (by simp)))
    clear hE ha h32
    refine y_aload_n 0 Y dX6_areSame_0 rfl ?_
    refine y_geta 1 Y 8 dX6_areSame_1 rfl rfl ?_
    refine y_iload_n 4 Y dX6_areSame_4 rfl ?_
    obtain ⟨o1, h⟩ := h
    obtain ⟨o2, h⟩ := h
    refine y_iald 5 Y dX6_areSame_5 rfl rfl o1 o2 (fun _ => ?_)
    refine y_aload_n 6 Y dX6_areSame_6 rfl ?_
    refine y_geta 7 Y 8 dX6_areSame_7 rfl rfl ?_
    refine y_iload_n 10 Y dX6_areSame_10 rfl ?_
    obtain ⟨o3, h⟩ := h
    obtain ⟨o4, h⟩ := h
    refine y_iald 11 Y dX6_areSame_11 rfl rfl o3 o4 (fun _ => ?_)
    refine y_icmp 12 19 Y dX6_areSame_12 rfl rfl (fun c => ?_) (fun c => ?_)
    · replace h := h.1 c
      refine y_iconst 19 Y dX6_areSame_19 rfl ?_
      refine y_istore_n 20 Y [some mt, some (mi a1), some (mi a2), some (mi 0), none, none] dX6_areSame_20 rfl rfl ?_
      refine y_aload_n 21 Y dX6_areSame_21 rfl ?_
      refine y_geta 22 Y 8 dX6_areSame_22 rfl rfl ?_
      refine y_iload_n 25 Y dX6_areSame_25 rfl ?_
      refine y_iald 26 Y dX6_areSame_26 rfl rfl o1 o2 (fun _ => ?_)
      refine y_istore 27 Y [some mt, some (mi a1), some (mi a2), some (mi 0), some (mi (S 8 a1)), none] dX6_areSame_27 rfl rfl ?_
      refine y_iconst 29 Y dX6_areSame_29 rfl ?_
      refine y_istore 30 Y [some mt, some (mi a1), some (mi a2), some (mi 0), some (mi (S 8 a1)), some (mi 0)] dX6_areSame_30 rfl rfl ?_
      obtain ⟨n1, h⟩ := h
      exact Wk 32 _ [some mt, some (mi a1), some (mi a2), some (mi 0), some (mi (S 8 a1)), some (mi 0)] _ _ ⟨rfl, ⟨rfl, ⟨rfl, ⟨rfl, ⟨rfl, ⟨rfl, trivial⟩⟩⟩⟩⟩⟩ (hIc n1 _ _ _ _ ((⟨rfl, _, _, _, _, _, rfl, rfl, h⟩)))
    · replace h := h.2 c
      refine y_iconst 15 Y dX6_areSame_15 rfl ?_
      refine y_goto 16 20 Y dX6_areSame_16 rfl rfl ?_
      refine y_istore_n 20 Y [some mt, some (mi a1), some (mi a2), some (mi 1), none, none] dX6_areSame_20 rfl rfl ?_
      refine y_aload_n 21 Y dX6_areSame_21 rfl ?_
      refine y_geta 22 Y 8 dX6_areSame_22 rfl rfl ?_
      refine y_iload_n 25 Y dX6_areSame_25 rfl ?_
      refine y_iald 26 Y dX6_areSame_26 rfl rfl o1 o2 (fun _ => ?_)
      refine y_istore 27 Y [some mt, some (mi a1), some (mi a2), some (mi 1), some (mi (S 8 a1)), none] dX6_areSame_27 rfl rfl ?_
      refine y_iconst 29 Y dX6_areSame_29 rfl ?_
      refine y_istore 30 Y [some mt, some (mi a1), some (mi a2), some (mi 1), some (mi (S 8 a1)), some (mi 0)] dX6_areSame_30 rfl rfl ?_
      obtain ⟨n1, h⟩ := h
      exact Wk 32 _ [some mt, some (mi a1), some (mi a2), some (mi 1), some (mi (S 8 a1)), some (mi 0)] _ _ ⟨rfl, ⟨rfl, ⟨rfl, ⟨rfl, ⟨rfl, ⟨rfl, trivial⟩⟩⟩⟩⟩⟩ (hIc n1 _ _ _ _ ((⟨rfl, _, _, _, _, _, rfl, rfl, h⟩)))
  · intro n pc L st T hi hS hL P Y Wk hIc
    clear hE
    rcases hi with ⟨rfl, l1, l2, l3, l4, l5, rfl, rfl, hi⟩
    · have h := h32 n l1 l2 l3 l4 l5 T hS (hL 1 _ rfl) (hL 2 _ rfl) (hL 3 _ rfl) (hL 4 _ rfl) (hL 5 _ rfl) hi
      clear hL hi h32
      refine y_iload 32 Y dX6_areSame_32 rfl ?_
      refine y_iload 34 Y dX6_areSame_34 rfl ?_
      refine y_icmp 36 139 Y dX6_areSame_36 rfl rfl (fun c => ?_) (fun c => ?_)
      · replace h := h.1 c
        refine y_iload_n 139 Y dX6_areSame_139 rfl ?_
        exact y_zret 140 Y dX6_areSame_140 rfl h.1 h.2
      · replace h := h.2 c
        refine y_iload_n 39 Y dX6_areSame_39 rfl ?_
        refine y_if 40 139 Y dX6_areSame_40 rfl rfl (fun c => ?_) (fun c => ?_)
        · replace h := h.1 c
          refine y_iload_n 139 Y dX6_areSame_139 rfl ?_
          exact y_zret 140 Y dX6_areSame_140 rfl h.1 h.2
        · replace h := h.2 c
          refine y_aload_n 43 Y dX6_areSame_43 rfl ?_
          refine y_geta 44 Y 4 dX6_areSame_44 rfl rfl ?_
          refine y_iload_n 47 Y dX6_areSame_47 rfl ?_
          refine y_iload 48 Y dX6_areSame_48 rfl ?_
          obtain ⟨o1, h⟩ := h
          refine y_iadd 50 Y dX6_areSame_50 o1 ?_
          obtain ⟨o2, h⟩ := h
          obtain ⟨o3, h⟩ := h
          refine y_iald 51 Y dX6_areSame_51 rfl rfl o2 o3 (fun _ => ?_)
          refine y_aload_n 52 Y dX6_areSame_52 rfl ?_
          refine y_geta 53 Y 4 dX6_areSame_53 rfl rfl ?_
          refine y_iload_n 56 Y dX6_areSame_56 rfl ?_
          refine y_iload 57 Y dX6_areSame_57 rfl ?_
          obtain ⟨o4, h⟩ := h
          refine y_iadd 59 Y dX6_areSame_59 o4 ?_
          obtain ⟨o5, h⟩ := h
          obtain ⟨o6, h⟩ := h
          refine y_iald 60 Y dX6_areSame_60 rfl rfl o5 o6 (fun _ => ?_)
          refine y_icmp 61 131 Y dX6_areSame_61 rfl rfl (fun c => ?_) (fun c => ?_)
          · replace h := h.1 c
            refine y_iconst 131 Y dX6_areSame_131 rfl ?_
            refine y_istore_n 132 Y [some mt, some (mi l1), some (mi l2), some (mi 0), some (mi l4), some (mi l5)] dX6_areSame_132 rfl rfl ?_
            obtain ⟨o7, h⟩ := h
            refine y_iinc 133 Y [some mt, some (mi l1), some (mi l2), some (mi 0), some (mi l4), some (mi (l5 + 1))] dX6_areSame_133 rfl rfl o7 ?_
            refine y_goto 136 32 Y dX6_areSame_136 rfl rfl ?_
            obtain ⟨n1, hn, h⟩ := h
            exact Wk 32 _ [some mt, some (mi l1), some (mi l2), some (mi 0), some (mi l4), some (mi (l5 + 1))] _ _ ⟨rfl, ⟨rfl, ⟨rfl, ⟨rfl, ⟨rfl, ⟨rfl, trivial⟩⟩⟩⟩⟩⟩ (hIc n1 _ _ _ _ hn ((⟨rfl, _, _, _, _, _, rfl, rfl, h⟩)))
          · replace h := h.2 c
            refine y_aload_n 64 Y dX6_areSame_64 rfl ?_
            refine y_geta 65 Y 5 dX6_areSame_65 rfl rfl ?_
            refine y_iload_n 68 Y dX6_areSame_68 rfl ?_
            refine y_iload 69 Y dX6_areSame_69 rfl ?_
            refine y_iadd 71 Y dX6_areSame_71 o1 ?_
            refine y_iald 72 Y dX6_areSame_72 rfl rfl o2 o3 (fun _ => ?_)
            refine y_aload_n 73 Y dX6_areSame_73 rfl ?_
            refine y_geta 74 Y 5 dX6_areSame_74 rfl rfl ?_
            refine y_iload_n 77 Y dX6_areSame_77 rfl ?_
            refine y_iload 78 Y dX6_areSame_78 rfl ?_
            refine y_iadd 80 Y dX6_areSame_80 o4 ?_
            refine y_iald 81 Y dX6_areSame_81 rfl rfl o5 o6 (fun _ => ?_)
            refine y_icmp 82 131 Y dX6_areSame_82 rfl rfl (fun c => ?_) (fun c => ?_)
            · replace h := h.1 c
              refine y_iconst 131 Y dX6_areSame_131 rfl ?_
              refine y_istore_n 132 Y [some mt, some (mi l1), some (mi l2), some (mi 0), some (mi l4), some (mi l5)] dX6_areSame_132 rfl rfl ?_
              obtain ⟨o8, h⟩ := h
              refine y_iinc 133 Y [some mt, some (mi l1), some (mi l2), some (mi 0), some (mi l4), some (mi (l5 + 1))] dX6_areSame_133 rfl rfl o8 ?_
              refine y_goto 136 32 Y dX6_areSame_136 rfl rfl ?_
              obtain ⟨n1, hn, h⟩ := h
              exact Wk 32 _ [some mt, some (mi l1), some (mi l2), some (mi 0), some (mi l4), some (mi (l5 + 1))] _ _ ⟨rfl, ⟨rfl, ⟨rfl, ⟨rfl, ⟨rfl, ⟨rfl, trivial⟩⟩⟩⟩⟩⟩ (hIc n1 _ _ _ _ hn ((⟨rfl, _, _, _, _, _, rfl, rfl, h⟩)))
            · replace h := h.2 c
              refine y_aload_n 85 Y dX6_areSame_85 rfl ?_
              refine y_geta 86 Y 6 dX6_areSame_86 rfl rfl ?_
              refine y_iload_n 89 Y dX6_areSame_89 rfl ?_
              refine y_iload 90 Y dX6_areSame_90 rfl ?_
              refine y_iadd 92 Y dX6_areSame_92 o1 ?_
              refine y_iald 93 Y dX6_areSame_93 rfl rfl o2 o3 (fun _ => ?_)
              refine y_aload_n 94 Y dX6_areSame_94 rfl ?_
              refine y_geta 95 Y 6 dX6_areSame_95 rfl rfl ?_
              refine y_iload_n 98 Y dX6_areSame_98 rfl ?_
              refine y_iload 99 Y dX6_areSame_99 rfl ?_
              refine y_iadd 101 Y dX6_areSame_101 o4 ?_
              refine y_iald 102 Y dX6_areSame_102 rfl rfl o5 o6 (fun _ => ?_)
              refine y_icmp 103 131 Y dX6_areSame_103 rfl rfl (fun c => ?_) (fun c => ?_)
              · replace h := h.1 c
                refine y_iconst 131 Y dX6_areSame_131 rfl ?_
                refine y_istore_n 132 Y [some mt, some (mi l1), some (mi l2), some (mi 0), some (mi l4), some (mi l5)] dX6_areSame_132 rfl rfl ?_
                obtain ⟨o9, h⟩ := h
                refine y_iinc 133 Y [some mt, some (mi l1), some (mi l2), some (mi 0), some (mi l4), some (mi (l5 + 1))] dX6_areSame_133 rfl rfl o9 ?_
                refine y_goto 136 32 Y dX6_areSame_136 rfl rfl ?_
                obtain ⟨n1, hn, h⟩ := h
                exact Wk 32 _ [some mt, some (mi l1), some (mi l2), some (mi 0), some (mi l4), some (mi (l5 + 1))] _ _ ⟨rfl, ⟨rfl, ⟨rfl, ⟨rfl, ⟨rfl, ⟨rfl, trivial⟩⟩⟩⟩⟩⟩ (hIc n1 _ _ _ _ hn ((⟨rfl, _, _, _, _, _, rfl, rfl, h⟩)))
              · replace h := h.2 c
                refine y_aload_n 106 Y dX6_areSame_106 rfl ?_
                refine y_geta 107 Y 7 dX6_areSame_107 rfl rfl ?_
                refine y_iload_n 110 Y dX6_areSame_110 rfl ?_
                refine y_iload 111 Y dX6_areSame_111 rfl ?_
                refine y_iadd 113 Y dX6_areSame_113 o1 ?_
                refine y_iald 114 Y dX6_areSame_114 rfl rfl o2 o3 (fun _ => ?_)
                refine y_aload_n 115 Y dX6_areSame_115 rfl ?_
                refine y_geta 116 Y 7 dX6_areSame_116 rfl rfl ?_
                refine y_iload_n 119 Y dX6_areSame_119 rfl ?_
                refine y_iload 120 Y dX6_areSame_120 rfl ?_
                refine y_iadd 122 Y dX6_areSame_122 o4 ?_
                refine y_iald 123 Y dX6_areSame_123 rfl rfl o5 o6 (fun _ => ?_)
                refine y_icmp 124 131 Y dX6_areSame_124 rfl rfl (fun c => ?_) (fun c => ?_)
                · replace h := h.1 c
                  refine y_iconst 131 Y dX6_areSame_131 rfl ?_
                  refine y_istore_n 132 Y [some mt, some (mi l1), some (mi l2), some (mi 0), some (mi l4), some (mi l5)] dX6_areSame_132 rfl rfl ?_
                  obtain ⟨o10, h⟩ := h
                  refine y_iinc 133 Y [some mt, some (mi l1), some (mi l2), some (mi 0), some (mi l4), some (mi (l5 + 1))] dX6_areSame_133 rfl rfl o10 ?_
                  refine y_goto 136 32 Y dX6_areSame_136 rfl rfl ?_
                  obtain ⟨n1, hn, h⟩ := h
                  exact Wk 32 _ [some mt, some (mi l1), some (mi l2), some (mi 0), some (mi l4), some (mi (l5 + 1))] _ _ ⟨rfl, ⟨rfl, ⟨rfl, ⟨rfl, ⟨rfl, ⟨rfl, trivial⟩⟩⟩⟩⟩⟩ (hIc n1 _ _ _ _ hn ((⟨rfl, _, _, _, _, _, rfl, rfl, h⟩)))
                · replace h := h.2 c
                  refine y_iconst 127 Y dX6_areSame_127 rfl ?_
                  refine y_goto 128 132 Y dX6_areSame_128 rfl rfl ?_
                  refine y_istore_n 132 Y [some mt, some (mi l1), some (mi l2), some (mi 1), some (mi l4), some (mi l5)] dX6_areSame_132 rfl rfl ?_
                  obtain ⟨o11, h⟩ := h
                  refine y_iinc 133 Y [some mt, some (mi l1), some (mi l2), some (mi 1), some (mi l4), some (mi (l5 + 1))] dX6_areSame_133 rfl rfl o11 ?_
                  refine y_goto 136 32 Y dX6_areSame_136 rfl rfl ?_
                  obtain ⟨n1, hn, h⟩ := h
                  exact Wk 32 _ [some mt, some (mi l1), some (mi l2), some (mi 1), some (mi l4), some (mi (l5 + 1))] _ _ ⟨rfl, ⟨rfl, ⟨rfl, ⟨rfl, ⟨rfl, ⟨rfl, trivial⟩⟩⟩⟩⟩⟩ (hIc n1 _ _ _ _ hn ((⟨rfl, _, _, _, _, _, rfl, rfl, h⟩)))
set_option maxHeartbeats 4000000 in
theorem of_bits {g : mG} {S : mS} {a1 : Int} {Qp : Option mV → mS → Prop} (I58 : Nat → Int → Int → mS → Prop)
    (hE : mI S → (-2147483648 ≤ a1 ∧ a1 ≤ 2147483647) → (0 ≤ a1) ∧ (a1 < 16) ∧ (((S 2 a1) ≠ 0) → (-2147483648 ≤ ((440 * a1) : Int) ∧ (440 * a1) ≤ 2147483647) ∧ (-2147483648 ≤ (((440 * a1) + (S 2 a1)) : Int) ∧ ((440 * a1) + (S 2 a1)) ≤ 2147483647) ∧ (-2147483648 ≤ ((((440 * a1) + (S 2 a1)) - 1) : Int) ∧ (((440 * a1) + (S 2 a1)) - 1) ≤ 2147483647) ∧ (0 ≤ (((440 * a1) + (S 2 a1)) - 1)) ∧ ((((440 * a1) + (S 2 a1)) - 1) < 7040) ∧ (((S 2 a1) ≠ 0) → (-2147483648 ≤ (((S 2 a1) - 1) : Int) ∧ ((S 2 a1) - 1) ≤ 2147483647) ∧ (-2147483648 ≤ ((16 * ((S 2 a1) - 1)) : Int) ∧ (16 * ((S 2 a1) - 1)) ≤ 2147483647) ∧ (∃ n1, I58 n1 (S 1 (((440 * a1) + (S 2 a1)) - 1)) (16 * ((S 2 a1) - 1)) S)) ∧ (¬ ((S 2 a1) ≠ 0) → (∃ n1, I58 n1 (S 1 (((440 * a1) + (S 2 a1)) - 1)) 0 S))) ∧ (¬ ((S 2 a1) ≠ 0) → (((S 2 a1) ≠ 0) → (-2147483648 ≤ (((S 2 a1) - 1) : Int) ∧ ((S 2 a1) - 1) ≤ 2147483647) ∧ (-2147483648 ≤ ((16 * ((S 2 a1) - 1)) : Int) ∧ (16 * ((S 2 a1) - 1)) ≤ 2147483647) ∧ (∃ n1, I58 n1 0 (16 * ((S 2 a1) - 1)) S)) ∧ (¬ ((S 2 a1) ≠ 0) → (∃ n1, I58 n1 0 0 S))))
    (h58 : ∀ (n : Nat) (l2 l3 : Int) (T : mS), mI T → (-2147483648 ≤ l2 ∧ l2 ≤ 2147483647) → (-2147483648 ≤ l3 ∧ l3 ≤ 2147483647) → I58 n l2 l3 T → ((l2 ≤ 0) → Qp (some (mi l3)) T) ∧ (¬ (l2 ≤ 0) → (-2147483648 ≤ ((l3 + 1) : Int) ∧ (l3 + 1) ≤ 2147483647) ∧ (∃ n1, n1 < n ∧ I58 n1 (l2 / 2) (l3 + 1) T)))
    : CX_bits g [mt, mi a1] S Qp := by
  refine cm_y ⟨by decide, rfl⟩ (by simp [mcat]) (by simp) (fun n pc L st S => (pc = 58 ∧ ∃ (l2 : Int) (l3 : Int), L = [some mt, none, some (mi l2), some (mi l3)] ∧ st = [] ∧ I58 n l2 l3 S)) ?_ ?_
  · intro ha hS P Y Wk hIc
    have h := hE hS (mokI (ha (mi a1) (by simp)))
    clear hE ha h58
    refine y_aload_n 0 Y dX6_bits_0 rfl ?_
    refine y_geta 1 Y 2 dX6_bits_1 rfl rfl ?_
    refine y_iload_n 4 Y dX6_bits_4 rfl ?_
    obtain ⟨o1, h⟩ := h
    obtain ⟨o2, h⟩ := h
    refine y_iald 5 Y dX6_bits_5 rfl rfl o1 o2 (fun _ => ?_)
    refine y_if 6 13 Y dX6_bits_6 rfl rfl (fun c => ?_) (fun c => ?_)
    · replace h := h.1 c
      refine y_aload_n 13 Y dX6_bits_13 rfl ?_
      refine y_geta 14 Y 1 dX6_bits_14 rfl rfl ?_
      refine y_sipush 17 Y dX6_bits_17 rfl ?_
      refine y_iload_n 20 Y dX6_bits_20 rfl ?_
      obtain ⟨o3, h⟩ := h
      refine y_imul 21 Y dX6_bits_21 o3 ?_
      refine y_aload_n 22 Y dX6_bits_22 rfl ?_
      refine y_geta 23 Y 2 dX6_bits_23 rfl rfl ?_
      refine y_iload_n 26 Y dX6_bits_26 rfl ?_
      refine y_iald 27 Y dX6_bits_27 rfl rfl o1 o2 (fun _ => ?_)
      obtain ⟨o4, h⟩ := h
      refine y_iadd 28 Y dX6_bits_28 o4 ?_
      refine y_iconst 29 Y dX6_bits_29 rfl ?_
      obtain ⟨o5, h⟩ := h
      refine y_isub 30 Y dX6_bits_30 o5 ?_
      obtain ⟨o6, h⟩ := h
      obtain ⟨o7, h⟩ := h
      refine y_iald 31 Y dX6_bits_31 rfl rfl o6 o7 (fun _ => ?_)
      refine y_istore_n 32 Y [some mt, some (mi a1), some (mi (S 1 (((440 * a1) + (S 2 a1)) - 1))), none] dX6_bits_32 rfl rfl ?_
      refine y_aload_n 33 Y dX6_bits_33 rfl ?_
      refine y_geta 34 Y 2 dX6_bits_34 rfl rfl ?_
      refine y_iload_n 37 Y dX6_bits_37 rfl ?_
      refine y_iald 38 Y dX6_bits_38 rfl rfl o1 o2 (fun _ => ?_)
      refine y_if 39 46 Y dX6_bits_39 rfl rfl (fun c => ?_) (fun c => ?_)
      · replace h := h.1 c
        refine y_bipush 46 Y dX6_bits_46 rfl ?_
        refine y_aload_n 48 Y dX6_bits_48 rfl ?_
        refine y_geta 49 Y 2 dX6_bits_49 rfl rfl ?_
        refine y_iload_n 52 Y dX6_bits_52 rfl ?_
        refine y_iald 53 Y dX6_bits_53 rfl rfl o1 o2 (fun _ => ?_)
        refine y_iconst 54 Y dX6_bits_54 rfl ?_
        obtain ⟨o8, h⟩ := h
        refine y_isub 55 Y dX6_bits_55 o8 ?_
        obtain ⟨o9, h⟩ := h
        refine y_imul 56 Y dX6_bits_56 o9 ?_
        refine y_istore_n 57 Y [some mt, some (mi a1), some (mi (S 1 (((440 * a1) + (S 2 a1)) - 1))), some (mi (16 * ((S 2 a1) - 1)))] dX6_bits_57 rfl rfl ?_
        obtain ⟨n1, h⟩ := h
        exact Wk 58 _ [some mt, none, some (mi (S 1 (((440 * a1) + (S 2 a1)) - 1))), some (mi (16 * ((S 2 a1) - 1)))] _ _ ⟨rfl, ⟨rfl, ⟨rfl, trivial⟩⟩⟩ (hIc n1 _ _ _ _ ((⟨rfl, _, _, rfl, rfl, h⟩)))
      · replace h := h.2 c
        refine y_iconst 42 Y dX6_bits_42 rfl ?_
        refine y_goto 43 57 Y dX6_bits_43 rfl rfl ?_
        refine y_istore_n 57 Y [some mt, some (mi a1), some (mi (S 1 (((440 * a1) + (S 2 a1)) - 1))), some (mi 0)] dX6_bits_57 rfl rfl ?_
        obtain ⟨n1, h⟩ := h
        exact Wk 58 _ [some mt, none, some (mi (S 1 (((440 * a1) + (S 2 a1)) - 1))), some (mi 0)] _ _ ⟨rfl, ⟨rfl, ⟨rfl, trivial⟩⟩⟩ (hIc n1 _ _ _ _ ((⟨rfl, _, _, rfl, rfl, h⟩)))
    · replace h := h.2 c
      refine y_iconst 9 Y dX6_bits_9 rfl ?_
      refine y_goto 10 32 Y dX6_bits_10 rfl rfl ?_
      refine y_istore_n 32 Y [some mt, some (mi a1), some (mi 0), none] dX6_bits_32 rfl rfl ?_
      refine y_aload_n 33 Y dX6_bits_33 rfl ?_
      refine y_geta 34 Y 2 dX6_bits_34 rfl rfl ?_
      refine y_iload_n 37 Y dX6_bits_37 rfl ?_
      refine y_iald 38 Y dX6_bits_38 rfl rfl o1 o2 (fun _ => ?_)
      refine y_if 39 46 Y dX6_bits_39 rfl rfl (fun c => ?_) (fun c => ?_)
      · replace h := h.1 c
        refine y_bipush 46 Y dX6_bits_46 rfl ?_
        refine y_aload_n 48 Y dX6_bits_48 rfl ?_
        refine y_geta 49 Y 2 dX6_bits_49 rfl rfl ?_
        refine y_iload_n 52 Y dX6_bits_52 rfl ?_
        refine y_iald 53 Y dX6_bits_53 rfl rfl o1 o2 (fun _ => ?_)
        refine y_iconst 54 Y dX6_bits_54 rfl ?_
        obtain ⟨o10, h⟩ := h
        refine y_isub 55 Y dX6_bits_55 o10 ?_
        obtain ⟨o11, h⟩ := h
        refine y_imul 56 Y dX6_bits_56 o11 ?_
        refine y_istore_n 57 Y [some mt, some (mi a1), some (mi 0), some (mi (16 * ((S 2 a1) - 1)))] dX6_bits_57 rfl rfl ?_
        obtain ⟨n1, h⟩ := h
        exact Wk 58 _ [some mt, none, some (mi 0), some (mi (16 * ((S 2 a1) - 1)))] _ _ ⟨rfl, ⟨rfl, ⟨rfl, trivial⟩⟩⟩ (hIc n1 _ _ _ _ ((⟨rfl, _, _, rfl, rfl, h⟩)))
      · replace h := h.2 c
        refine y_iconst 42 Y dX6_bits_42 rfl ?_
        refine y_goto 43 57 Y dX6_bits_43 rfl rfl ?_
        refine y_istore_n 57 Y [some mt, some (mi a1), some (mi 0), some (mi 0)] dX6_bits_57 rfl rfl ?_
        obtain ⟨n1, h⟩ := h
        exact Wk 58 _ [some mt, none, some (mi 0), some (mi 0)] _ _ ⟨rfl, ⟨rfl, ⟨rfl, trivial⟩⟩⟩ (hIc n1 _ _ _ _ ((⟨rfl, _, _, rfl, rfl, h⟩)))
  · intro n pc L st T hi hS hL P Y Wk hIc
    clear hE
    rcases hi with ⟨rfl, l2, l3, rfl, rfl, hi⟩
    · have h := h58 n l2 l3 T hS (hL 2 _ rfl) (hL 3 _ rfl) hi
      clear hL hi h58
      refine y_iload_n 58 Y dX6_bits_58 rfl ?_
      refine y_if 59 72 Y dX6_bits_59 rfl rfl (fun c => ?_) (fun c => ?_)
      · replace h := h.1 c
        refine y_iload_n 72 Y dX6_bits_72 rfl ?_
        exact y_iret 73 Y dX6_bits_73 rfl h
      · replace h := h.2 c
        obtain ⟨o1, h⟩ := h
        refine y_iinc 62 Y [some mt, none, some (mi l2), some (mi (l3 + 1))] dX6_bits_62 rfl rfl o1 ?_
        refine y_iload_n 65 Y dX6_bits_65 rfl ?_
        refine y_iconst 66 Y dX6_bits_66 rfl ?_
        refine y_ishr 67 Y 2 rfl dX6_bits_67 (by decide) (by decide) ?_
        refine y_istore_n 68 Y [some mt, none, some (mi (l2 / 2)), some (mi (l3 + 1))] dX6_bits_68 rfl rfl ?_
        refine y_goto 69 58 Y dX6_bits_69 rfl rfl ?_
        obtain ⟨n1, hn, h⟩ := h
        exact Wk 58 _ [some mt, none, some (mi (l2 / 2)), some (mi (l3 + 1))] _ _ ⟨rfl, ⟨rfl, ⟨rfl, trivial⟩⟩⟩ (hIc n1 _ _ _ _ hn ((⟨rfl, _, _, rfl, rfl, h⟩)))
set_option maxHeartbeats 4000000 in
theorem of_caseAt {g : mG} {S : mS} {a1 a2 a3 : Int} {Qp : Option mV → mS → Prop}
    (hE : mI S → (-2147483648 ≤ a1 ∧ a1 ≤ 2147483647) → (-2147483648 ≤ a2 ∧ a2 ≤ 2147483647) → (-2147483648 ≤ a3 ∧ a3 ≤ 2147483647) → (-2147483648 ≤ ((8 * a1) : Int) ∧ (8 * a1) ≤ 2147483647) ∧ (-2147483648 ≤ ((2 * a2) : Int) ∧ (2 * a2) ≤ 2147483647) ∧ (-2147483648 ≤ (((8 * a1) + (2 * a2)) : Int) ∧ ((8 * a1) + (2 * a2)) ≤ 2147483647) ∧ (-2147483648 ≤ ((((8 * a1) + (2 * a2)) + a3) : Int) ∧ (((8 * a1) + (2 * a2)) + a3) ≤ 2147483647) ∧ (-2147483648 ≤ ((30 * (((8 * a1) + (2 * a2)) + a3)) : Int) ∧ (30 * (((8 * a1) + (2 * a2)) + a3)) ≤ 2147483647) ∧ (-2147483648 ≤ ((2400 + (30 * (((8 * a1) + (2 * a2)) + a3))) : Int) ∧ (2400 + (30 * (((8 * a1) + (2 * a2)) + a3))) ≤ 2147483647) ∧ Qp (some (mi (2400 + (30 * (((8 * a1) + (2 * a2)) + a3))))) S)
    : CX_caseAt g [mi a1, mi a2, mi a3] S Qp := by
  refine cm_y ⟨by decide, rfl⟩ (by simp [mcat]) (by simp) (fun _ _ _ _ _ => False) ?_ ?_
  · intro ha hS P Y Wk hIc
    have h := hE hS (mokI (ha (mi a1) (by simp))) (mokI (ha (mi a2) (by simp))) (mokI (ha (mi a3) (by simp)))
    clear hE ha
    refine y_sipush 0 Y dX6_caseAt_0 rfl ?_
    refine y_bipush 3 Y dX6_caseAt_3 rfl ?_
    refine y_bipush 5 Y dX6_caseAt_5 rfl ?_
    refine y_iload_n 7 Y dX6_caseAt_7 rfl ?_
    obtain ⟨o1, h⟩ := h
    refine y_imul 8 Y dX6_caseAt_8 o1 ?_
    refine y_iconst 9 Y dX6_caseAt_9 rfl ?_
    refine y_iload_n 10 Y dX6_caseAt_10 rfl ?_
    obtain ⟨o2, h⟩ := h
    refine y_imul 11 Y dX6_caseAt_11 o2 ?_
    obtain ⟨o3, h⟩ := h
    refine y_iadd 12 Y dX6_caseAt_12 o3 ?_
    refine y_iload_n 13 Y dX6_caseAt_13 rfl ?_
    obtain ⟨o4, h⟩ := h
    refine y_iadd 14 Y dX6_caseAt_14 o4 ?_
    obtain ⟨o5, h⟩ := h
    refine y_imul 15 Y dX6_caseAt_15 o5 ?_
    obtain ⟨o6, h⟩ := h
    refine y_iadd 16 Y dX6_caseAt_16 o6 ?_
    exact y_iret 17 Y dX6_caseAt_17 rfl h
  · intro n pc L st T hi
    exact hi.elim
set_option maxHeartbeats 4000000 in
theorem of_child {g : mG} {S : mS} {a1 a2 : Int} {Qp : Option mV → mS → Prop} (I7 : Nat → Int → Int → Int → mS → Prop)
    (hE : mI S → (-2147483648 ≤ a1 ∧ a1 ≤ 2147483647) → (-2147483648 ≤ a2 ∧ a2 ≤ 2147483647) → (-2147483648 ≤ ((a1 + 1) : Int) ∧ (a1 + 1) ≤ 2147483647) ∧ (∃ n1, I7 n1 a2 (a1 + 1) 0 S))
    (h7 : ∀ (n : Nat) (l2 l3 l4 : Int) (T : mS), mI T → (-2147483648 ≤ l2 ∧ l2 ≤ 2147483647) → (-2147483648 ≤ l3 ∧ l3 ≤ 2147483647) → (-2147483648 ≤ l4 ∧ l4 ≤ 2147483647) → I7 n l2 l3 l4 T → ((l2 ≤ l4) → Qp (some (mi l3)) T) ∧ (¬ (l2 ≤ l4) → (0 ≤ l3) ∧ (l3 < 20300) ∧ (-2147483648 ≤ ((l3 + (T 8 l3)) : Int) ∧ (l3 + (T 8 l3)) ≤ 2147483647) ∧ (-2147483648 ≤ ((l4 + 1) : Int) ∧ (l4 + 1) ≤ 2147483647) ∧ (∃ n1, n1 < n ∧ I7 n1 l2 (l3 + (T 8 l3)) (l4 + 1) T)))
    : CX_child g [mt, mi a1, mi a2] S Qp := by
  refine cm_y ⟨by decide, rfl⟩ (by simp [mcat]) (by simp) (fun n pc L st S => (pc = 7 ∧ ∃ (l2 : Int) (l3 : Int) (l4 : Int), L = [some mt, none, some (mi l2), some (mi l3), some (mi l4)] ∧ st = [] ∧ I7 n l2 l3 l4 S)) ?_ ?_
  · intro ha hS P Y Wk hIc
    have h := hE hS (mokI (ha (mi a1) (by simp))) (mokI (ha (mi a2) (by simp)))
    clear hE ha h7
    refine y_iload_n 0 Y dX6_child_0 rfl ?_
    refine y_iconst 1 Y dX6_child_1 rfl ?_
    obtain ⟨o1, h⟩ := h
    refine y_iadd 2 Y dX6_child_2 o1 ?_
    refine y_istore_n 3 Y [some mt, some (mi a1), some (mi a2), some (mi (a1 + 1)), none] dX6_child_3 rfl rfl ?_
    refine y_iconst 4 Y dX6_child_4 rfl ?_
    refine y_istore 5 Y [some mt, some (mi a1), some (mi a2), some (mi (a1 + 1)), some (mi 0)] dX6_child_5 rfl rfl ?_
    obtain ⟨n1, h⟩ := h
    exact Wk 7 _ [some mt, none, some (mi a2), some (mi (a1 + 1)), some (mi 0)] _ _ ⟨rfl, ⟨rfl, ⟨rfl, ⟨rfl, trivial⟩⟩⟩⟩ (hIc n1 _ _ _ _ ((⟨rfl, _, _, _, rfl, rfl, h⟩)))
  · intro n pc L st T hi hS hL P Y Wk hIc
    clear hE
    rcases hi with ⟨rfl, l2, l3, l4, rfl, rfl, hi⟩
    · have h := h7 n l2 l3 l4 T hS (hL 2 _ rfl) (hL 3 _ rfl) (hL 4 _ rfl) hi
      clear hL hi h7
      refine y_iload 7 Y dX6_child_7 rfl ?_
      refine y_iload_n 9 Y dX6_child_9 rfl ?_
      refine y_icmp 10 28 Y dX6_child_10 rfl rfl (fun c => ?_) (fun c => ?_)
      · replace h := h.1 c
        refine y_iload_n 28 Y dX6_child_28 rfl ?_
        exact y_iret 29 Y dX6_child_29 rfl h
      · replace h := h.2 c
        refine y_iload_n 13 Y dX6_child_13 rfl ?_
        refine y_aload_n 14 Y dX6_child_14 rfl ?_
        refine y_geta 15 Y 8 dX6_child_15 rfl rfl ?_
        refine y_iload_n 18 Y dX6_child_18 rfl ?_
        obtain ⟨o1, h⟩ := h
        obtain ⟨o2, h⟩ := h
        refine y_iald 19 Y dX6_child_19 rfl rfl o1 o2 (fun _ => ?_)
        obtain ⟨o3, h⟩ := h
        refine y_iadd 20 Y dX6_child_20 o3 ?_
        refine y_istore_n 21 Y [some mt, none, some (mi l2), some (mi (l3 + (T 8 l3))), some (mi l4)] dX6_child_21 rfl rfl ?_
        obtain ⟨o4, h⟩ := h
        refine y_iinc 22 Y [some mt, none, some (mi l2), some (mi (l3 + (T 8 l3))), some (mi (l4 + 1))] dX6_child_22 rfl rfl o4 ?_
        refine y_goto 25 7 Y dX6_child_25 rfl rfl ?_
        obtain ⟨n1, hn, h⟩ := h
        exact Wk 7 _ [some mt, none, some (mi l2), some (mi (l3 + (T 8 l3))), some (mi (l4 + 1))] _ _ ⟨rfl, ⟨rfl, ⟨rfl, ⟨rfl, trivial⟩⟩⟩⟩ (hIc n1 _ _ _ _ hn ((⟨rfl, _, _, _, rfl, rfl, h⟩)))
set_option maxHeartbeats 4000000 in
theorem of_coefficientAt {g : mG} {S : mS} {a1 a2 : Int} {Qp : Option mV → mS → Prop}
    (hE : mI S → (-2147483648 ≤ a1 ∧ a1 ≤ 2147483647) → (-2147483648 ≤ a2 ∧ a2 ≤ 2147483647) → (-2147483648 ≤ ((9 * a1) : Int) ∧ (9 * a1) ≤ 2147483647) ∧ (-2147483648 ≤ ((2700 + (9 * a1)) : Int) ∧ (2700 + (9 * a1)) ≤ 2147483647) ∧ (-2147483648 ≤ (((2700 + (9 * a1)) + a2) : Int) ∧ ((2700 + (9 * a1)) + a2) ≤ 2147483647) ∧ Qp (some (mi ((2700 + (9 * a1)) + a2))) S)
    : CX_coefficientAt g [mi a1, mi a2] S Qp := by
  refine cm_y ⟨by decide, rfl⟩ (by simp [mcat]) (by simp) (fun _ _ _ _ _ => False) ?_ ?_
  · intro ha hS P Y Wk hIc
    have h := hE hS (mokI (ha (mi a1) (by simp))) (mokI (ha (mi a2) (by simp)))
    clear hE ha
    refine y_sipush 0 Y dX6_coefficientAt_0 rfl ?_
    refine y_bipush 3 Y dX6_coefficientAt_3 rfl ?_
    refine y_iload_n 5 Y dX6_coefficientAt_5 rfl ?_
    obtain ⟨o1, h⟩ := h
    refine y_imul 6 Y dX6_coefficientAt_6 o1 ?_
    obtain ⟨o2, h⟩ := h
    refine y_iadd 7 Y dX6_coefficientAt_7 o2 ?_
    refine y_iload_n 8 Y dX6_coefficientAt_8 rfl ?_
    obtain ⟨o3, h⟩ := h
    refine y_iadd 9 Y dX6_coefficientAt_9 o3 ?_
    exact y_iret 10 Y dX6_coefficientAt_10 rfl h
  · intro n pc L st T hi
    exact hi.elim
set_option maxHeartbeats 4000000 in
theorem of_compare {g : mG} {S : mS} {a1 a2 : Int} {Qp : Option mV → mS → Prop} (I48 : Nat → Int → Int → Int → Int → mS → Prop)
    (hE : mI S → (-2147483648 ≤ a1 ∧ a1 ≤ 2147483647) → (-2147483648 ≤ a2 ∧ a2 ≤ 2147483647) → (0 ≤ a1) ∧ (a1 < 16) ∧ (0 ≤ a2) ∧ (a2 < 16) ∧ (((S 2 a1) = (S 2 a2)) → (-2147483648 ≤ (((S 2 a1) - 1) : Int) ∧ ((S 2 a1) - 1) ≤ 2147483647) ∧ (∃ n1, I48 n1 a1 a2 0 ((S 2 a1) - 1) S)) ∧ (¬ ((S 2 a1) = (S 2 a2)) → (((S 2 a2) ≤ (S 2 a1)) → Qp (some (mi 1)) S) ∧ (¬ ((S 2 a2) ≤ (S 2 a1)) → Qp (some (mi (-1))) S)))
    (h48 : ∀ (n : Nat) (l1 l2 l3 l4 : Int) (T : mS), mI T → (-2147483648 ≤ l1 ∧ l1 ≤ 2147483647) → (-2147483648 ≤ l2 ∧ l2 ≤ 2147483647) → (-2147483648 ≤ l3 ∧ l3 ≤ 2147483647) → (-2147483648 ≤ l4 ∧ l4 ≤ 2147483647) → I48 n l1 l2 l3 l4 T → ((l4 < 0) → Qp (some (mi l3)) T) ∧ (¬ (l4 < 0) → ((l3 ≠ 0) → Qp (some (mi l3)) T) ∧ (¬ (l3 ≠ 0) → (-2147483648 ≤ ((440 * l1) : Int) ∧ (440 * l1) ≤ 2147483647) ∧ (-2147483648 ≤ (((440 * l1) + l4) : Int) ∧ ((440 * l1) + l4) ≤ 2147483647) ∧ (0 ≤ ((440 * l1) + l4)) ∧ (((440 * l1) + l4) < 7040) ∧ (-2147483648 ≤ ((440 * l2) : Int) ∧ (440 * l2) ≤ 2147483647) ∧ (-2147483648 ≤ (((440 * l2) + l4) : Int) ∧ ((440 * l2) + l4) ≤ 2147483647) ∧ (0 ≤ ((440 * l2) + l4)) ∧ (((440 * l2) + l4) < 7040) ∧ (-2147483648 ≤ (((T 1 ((440 * l1) + l4)) - (T 1 ((440 * l2) + l4))) : Int) ∧ ((T 1 ((440 * l1) + l4)) - (T 1 ((440 * l2) + l4))) ≤ 2147483647) ∧ (-2147483648 ≤ ((l4 + (-1)) : Int) ∧ (l4 + (-1)) ≤ 2147483647) ∧ (∃ n1, n1 < n ∧ I48 n1 l1 l2 ((T 1 ((440 * l1) + l4)) - (T 1 ((440 * l2) + l4))) (l4 + (-1)) T))))
    : CX_compare g [mt, mi a1, mi a2] S Qp := by
  refine cm_y ⟨by decide, rfl⟩ (by simp [mcat]) (by simp) (fun n pc L st S => (pc = 48 ∧ ∃ (l1 : Int) (l2 : Int) (l3 : Int) (l4 : Int), L = [some mt, some (mi l1), some (mi l2), some (mi l3), some (mi l4)] ∧ st = [] ∧ I48 n l1 l2 l3 l4 S)) ?_ ?_
  · intro ha hS P Y Wk hIc
    have h := hE hS (mokI (ha (mi a1) (by simp))) (mokI (ha (mi a2) (by simp)))
    clear hE ha h48
    refine y_aload_n 0 Y dX6_compare_0 rfl ?_
    refine y_geta 1 Y 2 dX6_compare_1 rfl rfl ?_
    refine y_iload_n 4 Y dX6_compare_4 rfl ?_
    obtain ⟨o1, h⟩ := h
    obtain ⟨o2, h⟩ := h
    refine y_iald 5 Y dX6_compare_5 rfl rfl o1 o2 (fun _ => ?_)
    refine y_aload_n 6 Y dX6_compare_6 rfl ?_
    refine y_geta 7 Y 2 dX6_compare_7 rfl rfl ?_
    refine y_iload_n 10 Y dX6_compare_10 rfl ?_
    obtain ⟨o3, h⟩ := h
    obtain ⟨o4, h⟩ := h
    refine y_iald 11 Y dX6_compare_11 rfl rfl o3 o4 (fun _ => ?_)
    refine y_icmp 12 36 Y dX6_compare_12 rfl rfl (fun c => ?_) (fun c => ?_)
    · replace h := h.1 c
      refine y_iconst 36 Y dX6_compare_36 rfl ?_
      refine y_istore_n 37 Y [some mt, some (mi a1), some (mi a2), some (mi 0), none] dX6_compare_37 rfl rfl ?_
      refine y_aload_n 38 Y dX6_compare_38 rfl ?_
      refine y_geta 39 Y 2 dX6_compare_39 rfl rfl ?_
      refine y_iload_n 42 Y dX6_compare_42 rfl ?_
      refine y_iald 43 Y dX6_compare_43 rfl rfl o1 o2 (fun _ => ?_)
      refine y_iconst 44 Y dX6_compare_44 rfl ?_
      obtain ⟨o5, h⟩ := h
      refine y_isub 45 Y dX6_compare_45 o5 ?_
      refine y_istore 46 Y [some mt, some (mi a1), some (mi a2), some (mi 0), some (mi ((S 2 a1) - 1))] dX6_compare_46 rfl rfl ?_
      obtain ⟨n1, h⟩ := h
      exact Wk 48 _ [some mt, some (mi a1), some (mi a2), some (mi 0), some (mi ((S 2 a1) - 1))] _ _ ⟨rfl, ⟨rfl, ⟨rfl, ⟨rfl, ⟨rfl, trivial⟩⟩⟩⟩⟩ (hIc n1 _ _ _ _ ((⟨rfl, _, _, _, _, rfl, rfl, h⟩)))
    · replace h := h.2 c
      refine y_aload_n 15 Y dX6_compare_15 rfl ?_
      refine y_geta 16 Y 2 dX6_compare_16 rfl rfl ?_
      refine y_iload_n 19 Y dX6_compare_19 rfl ?_
      refine y_iald 20 Y dX6_compare_20 rfl rfl o1 o2 (fun _ => ?_)
      refine y_aload_n 21 Y dX6_compare_21 rfl ?_
      refine y_geta 22 Y 2 dX6_compare_22 rfl rfl ?_
      refine y_iload_n 25 Y dX6_compare_25 rfl ?_
      refine y_iald 26 Y dX6_compare_26 rfl rfl o3 o4 (fun _ => ?_)
      refine y_icmp 27 34 Y dX6_compare_27 rfl rfl (fun c => ?_) (fun c => ?_)
      · replace h := h.1 c
        refine y_iconst 34 Y dX6_compare_34 rfl ?_
        exact y_iret 35 Y dX6_compare_35 rfl h
      · replace h := h.2 c
        refine y_iconst 30 Y dX6_compare_30 rfl ?_
        refine y_goto 31 35 Y dX6_compare_31 rfl rfl ?_
        exact y_iret 35 Y dX6_compare_35 rfl h
  · intro n pc L st T hi hS hL P Y Wk hIc
    clear hE
    rcases hi with ⟨rfl, l1, l2, l3, l4, rfl, rfl, hi⟩
    · have h := h48 n l1 l2 l3 l4 T hS (hL 1 _ rfl) (hL 2 _ rfl) (hL 3 _ rfl) (hL 4 _ rfl) hi
      clear hL hi h48
      refine y_iload 48 Y dX6_compare_48 rfl ?_
      refine y_if 50 91 Y dX6_compare_50 rfl rfl (fun c => ?_) (fun c => ?_)
      · replace h := h.1 c
        refine y_iload_n 91 Y dX6_compare_91 rfl ?_
        exact y_iret 92 Y dX6_compare_92 rfl h
      · replace h := h.2 c
        refine y_iload_n 53 Y dX6_compare_53 rfl ?_
        refine y_if 54 91 Y dX6_compare_54 rfl rfl (fun c => ?_) (fun c => ?_)
        · replace h := h.1 c
          refine y_iload_n 91 Y dX6_compare_91 rfl ?_
          exact y_iret 92 Y dX6_compare_92 rfl h
        · replace h := h.2 c
          refine y_aload_n 57 Y dX6_compare_57 rfl ?_
          refine y_geta 58 Y 1 dX6_compare_58 rfl rfl ?_
          refine y_sipush 61 Y dX6_compare_61 rfl ?_
          refine y_iload_n 64 Y dX6_compare_64 rfl ?_
          obtain ⟨o1, h⟩ := h
          refine y_imul 65 Y dX6_compare_65 o1 ?_
          refine y_iload 66 Y dX6_compare_66 rfl ?_
          obtain ⟨o2, h⟩ := h
          refine y_iadd 68 Y dX6_compare_68 o2 ?_
          obtain ⟨o3, h⟩ := h
          obtain ⟨o4, h⟩ := h
          refine y_iald 69 Y dX6_compare_69 rfl rfl o3 o4 (fun _ => ?_)
          refine y_aload_n 70 Y dX6_compare_70 rfl ?_
          refine y_geta 71 Y 1 dX6_compare_71 rfl rfl ?_
          refine y_sipush 74 Y dX6_compare_74 rfl ?_
          refine y_iload_n 77 Y dX6_compare_77 rfl ?_
          obtain ⟨o5, h⟩ := h
          refine y_imul 78 Y dX6_compare_78 o5 ?_
          refine y_iload 79 Y dX6_compare_79 rfl ?_
          obtain ⟨o6, h⟩ := h
          refine y_iadd 81 Y dX6_compare_81 o6 ?_
          obtain ⟨o7, h⟩ := h
          obtain ⟨o8, h⟩ := h
          refine y_iald 82 Y dX6_compare_82 rfl rfl o7 o8 (fun _ => ?_)
          obtain ⟨o9, h⟩ := h
          refine y_isub 83 Y dX6_compare_83 o9 ?_
          refine y_istore_n 84 Y [some mt, some (mi l1), some (mi l2), some (mi ((T 1 ((440 * l1) + l4)) - (T 1 ((440 * l2) + l4)))), some (mi l4)] dX6_compare_84 rfl rfl ?_
          obtain ⟨o10, h⟩ := h
          refine y_iinc 85 Y [some mt, some (mi l1), some (mi l2), some (mi ((T 1 ((440 * l1) + l4)) - (T 1 ((440 * l2) + l4)))), some (mi (l4 + (-1)))] dX6_compare_85 rfl rfl o10 ?_
          refine y_goto 88 48 Y dX6_compare_88 rfl rfl ?_
          obtain ⟨n1, hn, h⟩ := h
          exact Wk 48 _ [some mt, some (mi l1), some (mi l2), some (mi ((T 1 ((440 * l1) + l4)) - (T 1 ((440 * l2) + l4)))), some (mi (l4 + (-1)))] _ _ ⟨rfl, ⟨rfl, ⟨rfl, ⟨rfl, ⟨rfl, trivial⟩⟩⟩⟩⟩ (hIc n1 _ _ _ _ hn ((⟨rfl, _, _, _, _, rfl, rfl, h⟩)))
set_option maxHeartbeats 4000000 in
theorem of_copy {g : mG} {S : mS} {a1 a2 : Int} {Qp : Option mV → mS → Prop} (I2 : Nat → Int → Int → Int → mS → Prop)
    (hE : mI S → (-2147483648 ≤ a1 ∧ a1 ≤ 2147483647) → (-2147483648 ≤ a2 ∧ a2 ≤ 2147483647) → (∃ n1, I2 n1 a1 a2 0 S))
    (h2 : ∀ (n : Nat) (l1 l2 l3 : Int) (T : mS), mI T → (-2147483648 ≤ l1 ∧ l1 ≤ 2147483647) → (-2147483648 ≤ l2 ∧ l2 ≤ 2147483647) → (-2147483648 ≤ l3 ∧ l3 ≤ 2147483647) → I2 n l1 l2 l3 T → (0 ≤ l2) ∧ (l2 < 16) ∧ (((T 2 l2) ≤ l3) → (0 ≤ l1) ∧ (l1 < 16) ∧ Qp none (mup T 2 l1 (T 2 l2))) ∧ (¬ ((T 2 l2) ≤ l3) → (-2147483648 ≤ ((440 * l1) : Int) ∧ (440 * l1) ≤ 2147483647) ∧ (-2147483648 ≤ (((440 * l1) + l3) : Int) ∧ ((440 * l1) + l3) ≤ 2147483647) ∧ (-2147483648 ≤ ((440 * l2) : Int) ∧ (440 * l2) ≤ 2147483647) ∧ (-2147483648 ≤ (((440 * l2) + l3) : Int) ∧ ((440 * l2) + l3) ≤ 2147483647) ∧ (0 ≤ ((440 * l2) + l3)) ∧ (((440 * l2) + l3) < 7040) ∧ (0 ≤ ((440 * l1) + l3)) ∧ (((440 * l1) + l3) < 7040) ∧ (-2147483648 ≤ ((l3 + 1) : Int) ∧ (l3 + 1) ≤ 2147483647) ∧ (∃ n1, n1 < n ∧ I2 n1 l1 l2 (l3 + 1) (mup T 1 ((440 * l1) + l3) (T 1 ((440 * l2) + l3))))))
    : CX_copy g [mt, mi a1, mi a2] S Qp := by
  refine cm_y ⟨by decide, rfl⟩ (by simp [mcat]) (by simp) (fun n pc L st S => (pc = 2 ∧ ∃ (l1 : Int) (l2 : Int) (l3 : Int), L = [some mt, some (mi l1), some (mi l2), some (mi l3)] ∧ st = [] ∧ I2 n l1 l2 l3 S)) ?_ ?_
  · intro ha hS P Y Wk hIc
    have h := hE hS (mokI (ha (mi a1) (by simp))) (mokI (ha (mi a2) (by simp)))
    clear hE ha h2
    refine y_iconst 0 Y dX6_copy_0 rfl ?_
    refine y_istore_n 1 Y [some mt, some (mi a1), some (mi a2), some (mi 0)] dX6_copy_1 rfl rfl ?_
    obtain ⟨n1, h⟩ := h
    exact Wk 2 _ [some mt, some (mi a1), some (mi a2), some (mi 0)] _ _ ⟨rfl, ⟨rfl, ⟨rfl, ⟨rfl, trivial⟩⟩⟩⟩ (hIc n1 _ _ _ _ ((⟨rfl, _, _, _, rfl, rfl, h⟩)))
  · intro n pc L st T hi hS hL P Y Wk hIc
    clear hE
    rcases hi with ⟨rfl, l1, l2, l3, rfl, rfl, hi⟩
    · have h := h2 n l1 l2 l3 T hS (hL 1 _ rfl) (hL 2 _ rfl) (hL 3 _ rfl) hi
      clear hL hi h2
      refine y_iload_n 2 Y dX6_copy_2 rfl ?_
      refine y_aload_n 3 Y dX6_copy_3 rfl ?_
      refine y_geta 4 Y 2 dX6_copy_4 rfl rfl ?_
      refine y_iload_n 7 Y dX6_copy_7 rfl ?_
      obtain ⟨o1, h⟩ := h
      obtain ⟨o2, h⟩ := h
      refine y_iald 8 Y dX6_copy_8 rfl rfl o1 o2 (fun _ => ?_)
      refine y_icmp 9 42 Y dX6_copy_9 rfl rfl (fun c => ?_) (fun c => ?_)
      · replace h := h.1 c
        refine y_aload_n 42 Y dX6_copy_42 rfl ?_
        refine y_geta 43 Y 2 dX6_copy_43 rfl rfl ?_
        refine y_iload_n 46 Y dX6_copy_46 rfl ?_
        refine y_aload_n 47 Y dX6_copy_47 rfl ?_
        refine y_geta 48 Y 2 dX6_copy_48 rfl rfl ?_
        refine y_iload_n 51 Y dX6_copy_51 rfl ?_
        refine y_iald 52 Y dX6_copy_52 rfl rfl o1 o2 (fun _ => ?_)
        obtain ⟨o3, h⟩ := h
        obtain ⟨o4, h⟩ := h
        refine y_iast 53 Y dX6_copy_53 rfl rfl o3 o4 ?_
        exact y_ret 54 Y dX6_copy_54 rfl h
      · replace h := h.2 c
        refine y_aload_n 12 Y dX6_copy_12 rfl ?_
        refine y_geta 13 Y 1 dX6_copy_13 rfl rfl ?_
        refine y_sipush 16 Y dX6_copy_16 rfl ?_
        refine y_iload_n 19 Y dX6_copy_19 rfl ?_
        obtain ⟨o5, h⟩ := h
        refine y_imul 20 Y dX6_copy_20 o5 ?_
        refine y_iload_n 21 Y dX6_copy_21 rfl ?_
        obtain ⟨o6, h⟩ := h
        refine y_iadd 22 Y dX6_copy_22 o6 ?_
        refine y_aload_n 23 Y dX6_copy_23 rfl ?_
        refine y_geta 24 Y 1 dX6_copy_24 rfl rfl ?_
        refine y_sipush 27 Y dX6_copy_27 rfl ?_
        refine y_iload_n 30 Y dX6_copy_30 rfl ?_
        obtain ⟨o7, h⟩ := h
        refine y_imul 31 Y dX6_copy_31 o7 ?_
        refine y_iload_n 32 Y dX6_copy_32 rfl ?_
        obtain ⟨o8, h⟩ := h
        refine y_iadd 33 Y dX6_copy_33 o8 ?_
        obtain ⟨o9, h⟩ := h
        obtain ⟨o10, h⟩ := h
        refine y_iald 34 Y dX6_copy_34 rfl rfl o9 o10 (fun _ => ?_)
        obtain ⟨o11, h⟩ := h
        obtain ⟨o12, h⟩ := h
        refine y_iast 35 Y dX6_copy_35 rfl rfl o11 o12 ?_
        obtain ⟨o13, h⟩ := h
        refine y_iinc 36 Y [some mt, some (mi l1), some (mi l2), some (mi (l3 + 1))] dX6_copy_36 rfl rfl o13 ?_
        refine y_goto 39 2 Y dX6_copy_39 rfl rfl ?_
        obtain ⟨n1, hn, h⟩ := h
        exact Wk 2 _ [some mt, some (mi l1), some (mi l2), some (mi (l3 + 1))] _ _ ⟨rfl, ⟨rfl, ⟨rfl, ⟨rfl, trivial⟩⟩⟩⟩ (hIc n1 _ _ _ _ hn ((⟨rfl, _, _, _, rfl, rfl, h⟩)))
set_option maxHeartbeats 4000000 in
theorem of_copyNodes {g : mG} {S : mS} {a1 a2 a3 : Int} {Qp : Option mV → mS → Prop} (I3 : Nat → Int → Int → Int → Int → mS → Prop)
    (hE : mI S → (-2147483648 ≤ a1 ∧ a1 ≤ 2147483647) → (-2147483648 ≤ a2 ∧ a2 ≤ 2147483647) → (-2147483648 ≤ a3 ∧ a3 ≤ 2147483647) → (∃ n1, I3 n1 a1 a2 a3 0 S))
    (h3 : ∀ (n : Nat) (l1 l2 l3 l4 : Int) (T : mS), mI T → (-2147483648 ≤ l1 ∧ l1 ≤ 2147483647) → (-2147483648 ≤ l2 ∧ l2 ≤ 2147483647) → (-2147483648 ≤ l3 ∧ l3 ≤ 2147483647) → (-2147483648 ≤ l4 ∧ l4 ≤ 2147483647) → I3 n l1 l2 l3 l4 T → ((l3 ≤ l4) → Qp none T) ∧ (¬ (l3 ≤ l4) → (-2147483648 ≤ ((l1 + l4) : Int) ∧ (l1 + l4) ≤ 2147483647) ∧ (-2147483648 ≤ ((l2 + l4) : Int) ∧ (l2 + l4) ≤ 2147483647) ∧ (0 ≤ (l2 + l4)) ∧ ((l2 + l4) < 20300) ∧ (0 ≤ (l1 + l4)) ∧ ((l1 + l4) < 20300) ∧ (-2147483648 ≤ ((l4 + 1) : Int) ∧ (l4 + 1) ≤ 2147483647) ∧ (∃ n1, n1 < n ∧ I3 n1 l1 l2 l3 (l4 + 1) (mup (mup (mup (mup (mup T 4 (l1 + l4) (T 4 (l2 + l4))) 5 (l1 + l4) (T 5 (l2 + l4))) 6 (l1 + l4) (T 6 (l2 + l4))) 7 (l1 + l4) (T 7 (l2 + l4))) 8 (l1 + l4) (T 8 (l2 + l4))))))
    : CX_copyNodes g [mt, mi a1, mi a2, mi a3] S Qp := by
  refine cm_y ⟨by decide, rfl⟩ (by simp [mcat]) (by simp) (fun n pc L st S => (pc = 3 ∧ ∃ (l1 : Int) (l2 : Int) (l3 : Int) (l4 : Int), L = [some mt, some (mi l1), some (mi l2), some (mi l3), some (mi l4)] ∧ st = [] ∧ I3 n l1 l2 l3 l4 S)) ?_ ?_
  · intro ha hS P Y Wk hIc
    have h := hE hS (mokI (ha (mi a1) (by simp))) (mokI (ha (mi a2) (by simp))) (mokI (ha (mi a3) (by simp)))
    clear hE ha h3
    refine y_iconst 0 Y dX6_copyNodes_0 rfl ?_
    refine y_istore 1 Y [some mt, some (mi a1), some (mi a2), some (mi a3), some (mi 0)] dX6_copyNodes_1 rfl rfl ?_
    obtain ⟨n1, h⟩ := h
    exact Wk 3 _ [some mt, some (mi a1), some (mi a2), some (mi a3), some (mi 0)] _ _ ⟨rfl, ⟨rfl, ⟨rfl, ⟨rfl, ⟨rfl, trivial⟩⟩⟩⟩⟩ (hIc n1 _ _ _ _ ((⟨rfl, _, _, _, _, rfl, rfl, h⟩)))
  · intro n pc L st T hi hS hL P Y Wk hIc
    clear hE
    rcases hi with ⟨rfl, l1, l2, l3, l4, rfl, rfl, hi⟩
    · have h := h3 n l1 l2 l3 l4 T hS (hL 1 _ rfl) (hL 2 _ rfl) (hL 3 _ rfl) (hL 4 _ rfl) hi
      clear hL hi h3
      refine y_iload 3 Y dX6_copyNodes_3 rfl ?_
      refine y_iload_n 5 Y dX6_copyNodes_5 rfl ?_
      refine y_icmp 6 105 Y dX6_copyNodes_6 rfl rfl (fun c => ?_) (fun c => ?_)
      · replace h := h.1 c
        exact y_ret 105 Y dX6_copyNodes_105 rfl h
      · replace h := h.2 c
        refine y_aload_n 9 Y dX6_copyNodes_9 rfl ?_
        refine y_geta 10 Y 4 dX6_copyNodes_10 rfl rfl ?_
        refine y_iload_n 13 Y dX6_copyNodes_13 rfl ?_
        refine y_iload 14 Y dX6_copyNodes_14 rfl ?_
        obtain ⟨o1, h⟩ := h
        refine y_iadd 16 Y dX6_copyNodes_16 o1 ?_
        refine y_aload_n 17 Y dX6_copyNodes_17 rfl ?_
        refine y_geta 18 Y 4 dX6_copyNodes_18 rfl rfl ?_
        refine y_iload_n 21 Y dX6_copyNodes_21 rfl ?_
        refine y_iload 22 Y dX6_copyNodes_22 rfl ?_
        obtain ⟨o2, h⟩ := h
        refine y_iadd 24 Y dX6_copyNodes_24 o2 ?_
        obtain ⟨o3, h⟩ := h
        obtain ⟨o4, h⟩ := h
        refine y_iald 25 Y dX6_copyNodes_25 rfl rfl o3 o4 (fun _ => ?_)
        obtain ⟨o5, h⟩ := h
        obtain ⟨o6, h⟩ := h
        refine y_iast 26 Y dX6_copyNodes_26 rfl rfl o5 o6 ?_
        refine y_aload_n 27 Y dX6_copyNodes_27 rfl ?_
        refine y_geta 28 Y 5 dX6_copyNodes_28 rfl rfl ?_
        refine y_iload_n 31 Y dX6_copyNodes_31 rfl ?_
        refine y_iload 32 Y dX6_copyNodes_32 rfl ?_
        refine y_iadd 34 Y dX6_copyNodes_34 o1 ?_
        refine y_aload_n 35 Y dX6_copyNodes_35 rfl ?_
        refine y_geta 36 Y 5 dX6_copyNodes_36 rfl rfl ?_
        refine y_iload_n 39 Y dX6_copyNodes_39 rfl ?_
        refine y_iload 40 Y dX6_copyNodes_40 rfl ?_
        refine y_iadd 42 Y dX6_copyNodes_42 o2 ?_
        refine y_iald 43 Y dX6_copyNodes_43 rfl rfl o3 o4 (fun _ => ?_)
        refine y_iast 44 Y dX6_copyNodes_44 rfl rfl o5 o6 ?_
        refine y_aload_n 45 Y dX6_copyNodes_45 rfl ?_
        refine y_geta 46 Y 6 dX6_copyNodes_46 rfl rfl ?_
        refine y_iload_n 49 Y dX6_copyNodes_49 rfl ?_
        refine y_iload 50 Y dX6_copyNodes_50 rfl ?_
        refine y_iadd 52 Y dX6_copyNodes_52 o1 ?_
        refine y_aload_n 53 Y dX6_copyNodes_53 rfl ?_
        refine y_geta 54 Y 6 dX6_copyNodes_54 rfl rfl ?_
        refine y_iload_n 57 Y dX6_copyNodes_57 rfl ?_
        refine y_iload 58 Y dX6_copyNodes_58 rfl ?_
        refine y_iadd 60 Y dX6_copyNodes_60 o2 ?_
        refine y_iald 61 Y dX6_copyNodes_61 rfl rfl o3 o4 (fun _ => ?_)
        refine y_iast 62 Y dX6_copyNodes_62 rfl rfl o5 o6 ?_
        refine y_aload_n 63 Y dX6_copyNodes_63 rfl ?_
        refine y_geta 64 Y 7 dX6_copyNodes_64 rfl rfl ?_
        refine y_iload_n 67 Y dX6_copyNodes_67 rfl ?_
        refine y_iload 68 Y dX6_copyNodes_68 rfl ?_
        refine y_iadd 70 Y dX6_copyNodes_70 o1 ?_
        refine y_aload_n 71 Y dX6_copyNodes_71 rfl ?_
        refine y_geta 72 Y 7 dX6_copyNodes_72 rfl rfl ?_
        refine y_iload_n 75 Y dX6_copyNodes_75 rfl ?_
        refine y_iload 76 Y dX6_copyNodes_76 rfl ?_
        refine y_iadd 78 Y dX6_copyNodes_78 o2 ?_
        refine y_iald 79 Y dX6_copyNodes_79 rfl rfl o3 o4 (fun _ => ?_)
        refine y_iast 80 Y dX6_copyNodes_80 rfl rfl o5 o6 ?_
        refine y_aload_n 81 Y dX6_copyNodes_81 rfl ?_
        refine y_geta 82 Y 8 dX6_copyNodes_82 rfl rfl ?_
        refine y_iload_n 85 Y dX6_copyNodes_85 rfl ?_
        refine y_iload 86 Y dX6_copyNodes_86 rfl ?_
        refine y_iadd 88 Y dX6_copyNodes_88 o1 ?_
        refine y_aload_n 89 Y dX6_copyNodes_89 rfl ?_
        refine y_geta 90 Y 8 dX6_copyNodes_90 rfl rfl ?_
        refine y_iload_n 93 Y dX6_copyNodes_93 rfl ?_
        refine y_iload 94 Y dX6_copyNodes_94 rfl ?_
        refine y_iadd 96 Y dX6_copyNodes_96 o2 ?_
        refine y_iald 97 Y dX6_copyNodes_97 rfl rfl o3 o4 (fun _ => ?_)
        refine y_iast 98 Y dX6_copyNodes_98 rfl rfl o5 o6 ?_
        obtain ⟨o7, h⟩ := h
        refine y_iinc 99 Y [some mt, some (mi l1), some (mi l2), some (mi l3), some (mi (l4 + 1))] dX6_copyNodes_99 rfl rfl o7 ?_
        refine y_goto 102 3 Y dX6_copyNodes_102 rfl rfl ?_
        obtain ⟨n1, hn, h⟩ := h
        exact Wk 3 _ [some mt, some (mi l1), some (mi l2), some (mi l3), some (mi (l4 + 1))] _ _ ⟨rfl, ⟨rfl, ⟨rfl, ⟨rfl, ⟨rfl, trivial⟩⟩⟩⟩⟩ (hIc n1 _ _ _ _ hn ((⟨rfl, _, _, _, _, rfl, rfl, h⟩)))
set_option maxHeartbeats 4000000 in
theorem of_copyValue {g : mG} {S : mS} {a1 a2 : Int} {Qp : Option mV → mS → Prop} (I2 : Nat → Int → Int → Int → mS → Prop)
    (hE : mI S → (-2147483648 ≤ a1 ∧ a1 ≤ 2147483647) → (-2147483648 ≤ a2 ∧ a2 ≤ 2147483647) → (∃ n1, I2 n1 a1 a2 0 S))
    (h2 : ∀ (n : Nat) (l1 l2 l3 : Int) (T : mS), mI T → (-2147483648 ≤ l1 ∧ l1 ≤ 2147483647) → (-2147483648 ≤ l2 ∧ l2 ≤ 2147483647) → (-2147483648 ≤ l3 ∧ l3 ≤ 2147483647) → I2 n l1 l2 l3 T → ((28 ≤ l3) → Qp none T) ∧ (¬ (28 ≤ l3) → (-2147483648 ≤ ((28 * l1) : Int) ∧ (28 * l1) ≤ 2147483647) ∧ (-2147483648 ≤ (((28 * l1) + l3) : Int) ∧ ((28 * l1) + l3) ≤ 2147483647) ∧ (-2147483648 ≤ ((28 * l2) : Int) ∧ (28 * l2) ≤ 2147483647) ∧ (-2147483648 ≤ (((28 * l2) + l3) : Int) ∧ ((28 * l2) + l3) ≤ 2147483647) ∧ (0 ≤ ((28 * l2) + l3)) ∧ (((28 * l2) + l3) < 104160) ∧ (0 ≤ ((28 * l1) + l3)) ∧ (((28 * l1) + l3) < 104160) ∧ (-2147483648 ≤ ((l3 + 1) : Int) ∧ (l3 + 1) ≤ 2147483647) ∧ (∃ n1, n1 < n ∧ I2 n1 l1 l2 (l3 + 1) (mup T 3 ((28 * l1) + l3) (T 3 ((28 * l2) + l3))))))
    : CX_copyValue g [mt, mi a1, mi a2] S Qp := by
  refine cm_y ⟨by decide, rfl⟩ (by simp [mcat]) (by simp) (fun n pc L st S => (pc = 2 ∧ ∃ (l1 : Int) (l2 : Int) (l3 : Int), L = [some mt, some (mi l1), some (mi l2), some (mi l3)] ∧ st = [] ∧ I2 n l1 l2 l3 S)) ?_ ?_
  · intro ha hS P Y Wk hIc
    have h := hE hS (mokI (ha (mi a1) (by simp))) (mokI (ha (mi a2) (by simp)))
    clear hE ha h2
    refine y_iconst 0 Y dX6_copyValue_0 rfl ?_
    refine y_istore_n 1 Y [some mt, some (mi a1), some (mi a2), some (mi 0)] dX6_copyValue_1 rfl rfl ?_
    obtain ⟨n1, h⟩ := h
    exact Wk 2 _ [some mt, some (mi a1), some (mi a2), some (mi 0)] _ _ ⟨rfl, ⟨rfl, ⟨rfl, ⟨rfl, trivial⟩⟩⟩⟩ (hIc n1 _ _ _ _ ((⟨rfl, _, _, _, rfl, rfl, h⟩)))
  · intro n pc L st T hi hS hL P Y Wk hIc
    clear hE
    rcases hi with ⟨rfl, l1, l2, l3, rfl, rfl, hi⟩
    · have h := h2 n l1 l2 l3 T hS (hL 1 _ rfl) (hL 2 _ rfl) (hL 3 _ rfl) hi
      clear hL hi h2
      refine y_iload_n 2 Y dX6_copyValue_2 rfl ?_
      refine y_bipush 3 Y dX6_copyValue_3 rfl ?_
      refine y_icmp 5 36 Y dX6_copyValue_5 rfl rfl (fun c => ?_) (fun c => ?_)
      · replace h := h.1 c
        exact y_ret 36 Y dX6_copyValue_36 rfl h
      · replace h := h.2 c
        refine y_aload_n 8 Y dX6_copyValue_8 rfl ?_
        refine y_geta 9 Y 3 dX6_copyValue_9 rfl rfl ?_
        refine y_bipush 12 Y dX6_copyValue_12 rfl ?_
        refine y_iload_n 14 Y dX6_copyValue_14 rfl ?_
        obtain ⟨o1, h⟩ := h
        refine y_imul 15 Y dX6_copyValue_15 o1 ?_
        refine y_iload_n 16 Y dX6_copyValue_16 rfl ?_
        obtain ⟨o2, h⟩ := h
        refine y_iadd 17 Y dX6_copyValue_17 o2 ?_
        refine y_aload_n 18 Y dX6_copyValue_18 rfl ?_
        refine y_geta 19 Y 3 dX6_copyValue_19 rfl rfl ?_
        refine y_bipush 22 Y dX6_copyValue_22 rfl ?_
        refine y_iload_n 24 Y dX6_copyValue_24 rfl ?_
        obtain ⟨o3, h⟩ := h
        refine y_imul 25 Y dX6_copyValue_25 o3 ?_
        refine y_iload_n 26 Y dX6_copyValue_26 rfl ?_
        obtain ⟨o4, h⟩ := h
        refine y_iadd 27 Y dX6_copyValue_27 o4 ?_
        obtain ⟨o5, h⟩ := h
        obtain ⟨o6, h⟩ := h
        refine y_iald 28 Y dX6_copyValue_28 rfl rfl o5 o6 (fun _ => ?_)
        obtain ⟨o7, h⟩ := h
        obtain ⟨o8, h⟩ := h
        refine y_iast 29 Y dX6_copyValue_29 rfl rfl o7 o8 ?_
        obtain ⟨o9, h⟩ := h
        refine y_iinc 30 Y [some mt, some (mi l1), some (mi l2), some (mi (l3 + 1))] dX6_copyValue_30 rfl rfl o9 ?_
        refine y_goto 33 2 Y dX6_copyValue_33 rfl rfl ?_
        obtain ⟨n1, hn, h⟩ := h
        exact Wk 2 _ [some mt, some (mi l1), some (mi l2), some (mi (l3 + 1))] _ _ ⟨rfl, ⟨rfl, ⟨rfl, ⟨rfl, trivial⟩⟩⟩⟩ (hIc n1 _ _ _ _ hn ((⟨rfl, _, _, _, rfl, rfl, h⟩)))
set_option maxHeartbeats 4000000 in
theorem of_copyWideAside {g : mG} {S : mS}  {Qp : Option mV → mS → Prop} (I30 : Nat → Int → mS → Prop)
    (hE : mI S → (∃ n1, I30 n1 0 (mup (mup S 85 120 (S 2 8)) 85 121 (S 2 9))))
    (h30 : ∀ (n : Nat) (l1 : Int) (T : mS), mI T → (-2147483648 ≤ l1 ∧ l1 ≤ 2147483647) → I30 n l1 T → ((60 ≤ l1) → Qp none T) ∧ (¬ (60 ≤ l1) → (((T 2 8) ≤ l1) → (0 ≤ l1) ∧ (l1 < 122) ∧ (-2147483648 ≤ ((60 + l1) : Int) ∧ (60 + l1) ≤ 2147483647) ∧ (((T 2 9) ≤ l1) → (0 ≤ (60 + l1)) ∧ ((60 + l1) < 122) ∧ (-2147483648 ≤ ((l1 + 1) : Int) ∧ (l1 + 1) ≤ 2147483647) ∧ (∃ n1, n1 < n ∧ I30 n1 (l1 + 1) (mup (mup T 85 l1 0) 85 (60 + l1) 0))) ∧ (¬ ((T 2 9) ≤ l1) → (-2147483648 ≤ ((3960 + l1) : Int) ∧ (3960 + l1) ≤ 2147483647) ∧ (0 ≤ (3960 + l1)) ∧ ((3960 + l1) < 7040) ∧ (0 ≤ (60 + l1)) ∧ ((60 + l1) < 122) ∧ (-2147483648 ≤ ((l1 + 1) : Int) ∧ (l1 + 1) ≤ 2147483647) ∧ (∃ n1, n1 < n ∧ I30 n1 (l1 + 1) (mup (mup T 85 l1 0) 85 (60 + l1) (T 1 (3960 + l1)))))) ∧ (¬ ((T 2 8) ≤ l1) → (-2147483648 ≤ ((3520 + l1) : Int) ∧ (3520 + l1) ≤ 2147483647) ∧ (0 ≤ (3520 + l1)) ∧ ((3520 + l1) < 7040) ∧ (0 ≤ l1) ∧ (l1 < 122) ∧ (-2147483648 ≤ ((60 + l1) : Int) ∧ (60 + l1) ≤ 2147483647) ∧ (((T 2 9) ≤ l1) → (0 ≤ (60 + l1)) ∧ ((60 + l1) < 122) ∧ (-2147483648 ≤ ((l1 + 1) : Int) ∧ (l1 + 1) ≤ 2147483647) ∧ (∃ n1, n1 < n ∧ I30 n1 (l1 + 1) (mup (mup T 85 l1 (T 1 (3520 + l1))) 85 (60 + l1) 0))) ∧ (¬ ((T 2 9) ≤ l1) → (-2147483648 ≤ ((3960 + l1) : Int) ∧ (3960 + l1) ≤ 2147483647) ∧ (0 ≤ (3960 + l1)) ∧ ((3960 + l1) < 7040) ∧ (0 ≤ (60 + l1)) ∧ ((60 + l1) < 122) ∧ (-2147483648 ≤ ((l1 + 1) : Int) ∧ (l1 + 1) ≤ 2147483647) ∧ (∃ n1, n1 < n ∧ I30 n1 (l1 + 1) (mup (mup T 85 l1 (T 1 (3520 + l1))) 85 (60 + l1) (T 1 (3960 + l1))))))))
    : CX_copyWideAside g [mt] S Qp := by
  refine cm_y ⟨by decide, rfl⟩ (by simp [mcat]) (by simp) (fun n pc L st S => (pc = 30 ∧ ∃ (l1 : Int), L = [some mt, some (mi l1)] ∧ st = [] ∧ I30 n l1 S)) ?_ ?_
  · intro ha hS P Y Wk hIc
    have h := hE hS
    clear hE ha h30
    refine y_aload_n 0 Y dX6_copyWideAside_0 rfl ?_
    refine y_geta 1 Y 85 dX6_copyWideAside_1 rfl rfl ?_
    refine y_bipush 4 Y dX6_copyWideAside_4 rfl ?_
    refine y_aload_n 6 Y dX6_copyWideAside_6 rfl ?_
    refine y_geta 7 Y 2 dX6_copyWideAside_7 rfl rfl ?_
    refine y_bipush 10 Y dX6_copyWideAside_10 rfl ?_
    refine y_iald 12 Y dX6_copyWideAside_12 rfl rfl (by decide) (by decide) (fun _ => ?_)
    refine y_iast 13 Y dX6_copyWideAside_13 rfl rfl (by decide) (by decide) ?_
    refine y_aload_n 14 Y dX6_copyWideAside_14 rfl ?_
    refine y_geta 15 Y 85 dX6_copyWideAside_15 rfl rfl ?_
    refine y_bipush 18 Y dX6_copyWideAside_18 rfl ?_
    refine y_aload_n 20 Y dX6_copyWideAside_20 rfl ?_
    refine y_geta 21 Y 2 dX6_copyWideAside_21 rfl rfl ?_
    refine y_bipush 24 Y dX6_copyWideAside_24 rfl ?_
    refine y_iald 26 Y dX6_copyWideAside_26 rfl rfl (by decide) (by decide) (fun _ => ?_)
    refine y_iast 27 Y dX6_copyWideAside_27 rfl rfl (by decide) (by decide) ?_
    refine y_iconst 28 Y dX6_copyWideAside_28 rfl ?_
    refine y_istore_n 29 Y [some mt, some (mi 0)] dX6_copyWideAside_29 rfl rfl ?_
    obtain ⟨n1, h⟩ := h
    exact Wk 30 _ [some mt, some (mi 0)] _ _ ⟨rfl, ⟨rfl, trivial⟩⟩ (hIc n1 _ _ _ _ ((⟨rfl, _, rfl, rfl, h⟩)))
  · intro n pc L st T hi hS hL P Y Wk hIc
    clear hE
    rcases hi with ⟨rfl, l1, rfl, rfl, hi⟩
    · have h := h30 n l1 T hS (hL 1 _ rfl) hi
      clear hL hi h30
      refine y_iload_n 30 Y dX6_copyWideAside_30 rfl ?_
      refine y_bipush 31 Y dX6_copyWideAside_31 rfl ?_
      refine y_icmp 33 107 Y dX6_copyWideAside_33 rfl rfl (fun c => ?_) (fun c => ?_)
      · replace h := h.1 c
        exact y_ret 107 Y dX6_copyWideAside_107 rfl h
      · replace h := h.2 c
        refine y_aload_n 36 Y dX6_copyWideAside_36 rfl ?_
        refine y_geta 37 Y 85 dX6_copyWideAside_37 rfl rfl ?_
        refine y_iload_n 40 Y dX6_copyWideAside_40 rfl ?_
        refine y_iload_n 41 Y dX6_copyWideAside_41 rfl ?_
        refine y_aload_n 42 Y dX6_copyWideAside_42 rfl ?_
        refine y_geta 43 Y 2 dX6_copyWideAside_43 rfl rfl ?_
        refine y_bipush 46 Y dX6_copyWideAside_46 rfl ?_
        refine y_iald 48 Y dX6_copyWideAside_48 rfl rfl (by decide) (by decide) (fun _ => ?_)
        refine y_icmp 49 65 Y dX6_copyWideAside_49 rfl rfl (fun c => ?_) (fun c => ?_)
        · replace h := h.1 c
          refine y_iconst 65 Y dX6_copyWideAside_65 rfl ?_
          obtain ⟨o1, h⟩ := h
          obtain ⟨o2, h⟩ := h
          refine y_iast 66 Y dX6_copyWideAside_66 rfl rfl o1 o2 ?_
          refine y_aload_n 67 Y dX6_copyWideAside_67 rfl ?_
          refine y_geta 68 Y 85 dX6_copyWideAside_68 rfl rfl ?_
          refine y_bipush 71 Y dX6_copyWideAside_71 rfl ?_
          refine y_iload_n 73 Y dX6_copyWideAside_73 rfl ?_
          obtain ⟨o3, h⟩ := h
          refine y_iadd 74 Y dX6_copyWideAside_74 o3 ?_
          refine y_iload_n 75 Y dX6_copyWideAside_75 rfl ?_
          refine y_aload_n 76 Y dX6_copyWideAside_76 rfl ?_
          refine y_geta 77 Y 2 dX6_copyWideAside_77 rfl rfl ?_
          refine y_bipush 80 Y dX6_copyWideAside_80 rfl ?_
          refine y_iald 82 Y dX6_copyWideAside_82 rfl rfl (by decide) (by decide) (fun _ => ?_)
          refine y_icmp 83 99 Y dX6_copyWideAside_83 rfl rfl (fun c => ?_) (fun c => ?_)
          · replace h := h.1 c
            refine y_iconst 99 Y dX6_copyWideAside_99 rfl ?_
            obtain ⟨o4, h⟩ := h
            obtain ⟨o5, h⟩ := h
            refine y_iast 100 Y dX6_copyWideAside_100 rfl rfl o4 o5 ?_
            obtain ⟨o6, h⟩ := h
            refine y_iinc 101 Y [some mt, some (mi (l1 + 1))] dX6_copyWideAside_101 rfl rfl o6 ?_
            refine y_goto 104 30 Y dX6_copyWideAside_104 rfl rfl ?_
            obtain ⟨n1, hn, h⟩ := h
            exact Wk 30 _ [some mt, some (mi (l1 + 1))] _ _ ⟨rfl, ⟨rfl, trivial⟩⟩ (hIc n1 _ _ _ _ hn ((⟨rfl, _, rfl, rfl, h⟩)))
          · replace h := h.2 c
            refine y_aload_n 86 Y dX6_copyWideAside_86 rfl ?_
            refine y_geta 87 Y 1 dX6_copyWideAside_87 rfl rfl ?_
            refine y_sipush 90 Y dX6_copyWideAside_90 rfl ?_
            refine y_iload_n 93 Y dX6_copyWideAside_93 rfl ?_
            obtain ⟨o7, h⟩ := h
            refine y_iadd 94 Y dX6_copyWideAside_94 o7 ?_
            obtain ⟨o8, h⟩ := h
            obtain ⟨o9, h⟩ := h
            refine y_iald 95 Y dX6_copyWideAside_95 rfl rfl o8 o9 (fun _ => ?_)
            refine y_goto 96 100 Y dX6_copyWideAside_96 rfl rfl ?_
            obtain ⟨o10, h⟩ := h
            obtain ⟨o11, h⟩ := h
            refine y_iast 100 Y dX6_copyWideAside_100 rfl rfl o10 o11 ?_
            obtain ⟨o12, h⟩ := h
            refine y_iinc 101 Y [some mt, some (mi (l1 + 1))] dX6_copyWideAside_101 rfl rfl o12 ?_
            refine y_goto 104 30 Y dX6_copyWideAside_104 rfl rfl ?_
            obtain ⟨n1, hn, h⟩ := h
            exact Wk 30 _ [some mt, some (mi (l1 + 1))] _ _ ⟨rfl, ⟨rfl, trivial⟩⟩ (hIc n1 _ _ _ _ hn ((⟨rfl, _, rfl, rfl, h⟩)))
        · replace h := h.2 c
          refine y_aload_n 52 Y dX6_copyWideAside_52 rfl ?_
          refine y_geta 53 Y 1 dX6_copyWideAside_53 rfl rfl ?_
          refine y_sipush 56 Y dX6_copyWideAside_56 rfl ?_
          refine y_iload_n 59 Y dX6_copyWideAside_59 rfl ?_
          obtain ⟨o13, h⟩ := h
          refine y_iadd 60 Y dX6_copyWideAside_60 o13 ?_
          obtain ⟨o14, h⟩ := h
          obtain ⟨o15, h⟩ := h
          refine y_iald 61 Y dX6_copyWideAside_61 rfl rfl o14 o15 (fun _ => ?_)
          refine y_goto 62 66 Y dX6_copyWideAside_62 rfl rfl ?_
          obtain ⟨o16, h⟩ := h
          obtain ⟨o17, h⟩ := h
          refine y_iast 66 Y dX6_copyWideAside_66 rfl rfl o16 o17 ?_
          refine y_aload_n 67 Y dX6_copyWideAside_67 rfl ?_
          refine y_geta 68 Y 85 dX6_copyWideAside_68 rfl rfl ?_
          refine y_bipush 71 Y dX6_copyWideAside_71 rfl ?_
          refine y_iload_n 73 Y dX6_copyWideAside_73 rfl ?_
          obtain ⟨o18, h⟩ := h
          refine y_iadd 74 Y dX6_copyWideAside_74 o18 ?_
          refine y_iload_n 75 Y dX6_copyWideAside_75 rfl ?_
          refine y_aload_n 76 Y dX6_copyWideAside_76 rfl ?_
          refine y_geta 77 Y 2 dX6_copyWideAside_77 rfl rfl ?_
          refine y_bipush 80 Y dX6_copyWideAside_80 rfl ?_
          refine y_iald 82 Y dX6_copyWideAside_82 rfl rfl (by decide) (by decide) (fun _ => ?_)
          refine y_icmp 83 99 Y dX6_copyWideAside_83 rfl rfl (fun c => ?_) (fun c => ?_)
          · replace h := h.1 c
            refine y_iconst 99 Y dX6_copyWideAside_99 rfl ?_
            obtain ⟨o19, h⟩ := h
            obtain ⟨o20, h⟩ := h
            refine y_iast 100 Y dX6_copyWideAside_100 rfl rfl o19 o20 ?_
            obtain ⟨o21, h⟩ := h
            refine y_iinc 101 Y [some mt, some (mi (l1 + 1))] dX6_copyWideAside_101 rfl rfl o21 ?_
            refine y_goto 104 30 Y dX6_copyWideAside_104 rfl rfl ?_
            obtain ⟨n1, hn, h⟩ := h
            exact Wk 30 _ [some mt, some (mi (l1 + 1))] _ _ ⟨rfl, ⟨rfl, trivial⟩⟩ (hIc n1 _ _ _ _ hn ((⟨rfl, _, rfl, rfl, h⟩)))
          · replace h := h.2 c
            refine y_aload_n 86 Y dX6_copyWideAside_86 rfl ?_
            refine y_geta 87 Y 1 dX6_copyWideAside_87 rfl rfl ?_
            refine y_sipush 90 Y dX6_copyWideAside_90 rfl ?_
            refine y_iload_n 93 Y dX6_copyWideAside_93 rfl ?_
            obtain ⟨o22, h⟩ := h
            refine y_iadd 94 Y dX6_copyWideAside_94 o22 ?_
            obtain ⟨o23, h⟩ := h
            obtain ⟨o24, h⟩ := h
            refine y_iald 95 Y dX6_copyWideAside_95 rfl rfl o23 o24 (fun _ => ?_)
            refine y_goto 96 100 Y dX6_copyWideAside_96 rfl rfl ?_
            obtain ⟨o25, h⟩ := h
            obtain ⟨o26, h⟩ := h
            refine y_iast 100 Y dX6_copyWideAside_100 rfl rfl o25 o26 ?_
            obtain ⟨o27, h⟩ := h
            refine y_iinc 101 Y [some mt, some (mi (l1 + 1))] dX6_copyWideAside_101 rfl rfl o27 ?_
            refine y_goto 104 30 Y dX6_copyWideAside_104 rfl rfl ?_
            obtain ⟨n1, hn, h⟩ := h
            exact Wk 30 _ [some mt, some (mi (l1 + 1))] _ _ ⟨rfl, ⟨rfl, trivial⟩⟩ (hIc n1 _ _ _ _ hn ((⟨rfl, _, rfl, rfl, h⟩)))
set_option maxHeartbeats 4000000 in
theorem of_count {g : mG} {S : mS}  {Qp : Option mV → mS → Prop}
    (hE : mI S → (((S 62 0) ≠ 200) → (-2147483648 ≤ (((S 62 0) + 1) : Int) ∧ ((S 62 0) + 1) ≤ 2147483647) ∧ Qp (some (mi 0)) (mup S 62 0 ((S 62 0) + 1))) ∧ (¬ ((S 62 0) ≠ 200) → Qp (some (mi 9)) S))
    : CX_count g [mt] S Qp := by
  refine cm_y ⟨by decide, rfl⟩ (by simp [mcat]) (by simp) (fun _ _ _ _ _ => False) ?_ ?_
  · intro ha hS P Y Wk hIc
    have h := hE hS
    clear hE ha
    refine y_aload_n 0 Y dX6_count_0 rfl ?_
    refine y_getf 1 Y 62 dX6_count_1 rfl rfl (fun _ => ?_)
    refine y_sipush 4 Y dX6_count_4 rfl ?_
    refine y_icmp 7 13 Y dX6_count_7 rfl rfl (fun c => ?_) (fun c => ?_)
    · replace h := h.1 c
      refine y_aload_n 13 Y dX6_count_13 rfl ?_
      refine y_dup 14 Y dX6_count_14 rfl ?_
      refine y_getf 15 Y 62 dX6_count_15 rfl rfl (fun _ => ?_)
      refine y_iconst 18 Y dX6_count_18 rfl ?_
      obtain ⟨o1, h⟩ := h
      refine y_iadd 19 Y dX6_count_19 o1 ?_
      refine y_putf 20 Y 62 dX6_count_20 rfl rfl (fun q => absurd q (by decide)) ?_
      refine y_iconst 23 Y dX6_count_23 rfl ?_
      exact y_iret 24 Y dX6_count_24 rfl h
    · replace h := h.2 c
      refine y_bipush 10 Y dX6_count_10 rfl ?_
      exact y_iret 12 Y dX6_count_12 rfl h
  · intro n pc L st T hi
    exact hi.elim
set_option maxHeartbeats 4000000 in
theorem of_does {g : mG} {S : mS} {a1 a2 a3 a4 : Int} {Qp : Option mV → mS → Prop} (I47 : Nat → Int → Int → Int → mS → Prop)
    (hE : mI S → (-2147483648 ≤ a1 ∧ a1 ≤ 2147483647) → (-2147483648 ≤ a2 ∧ a2 ≤ 2147483647) → (-2147483648 ≤ a3 ∧ a3 ≤ 2147483647) → (-2147483648 ≤ a4 ∧ a4 ≤ 2147483647) → (0 ≤ (S 33 0)) ∧ ((S 33 0) < 100) ∧ (∃ n1, I47 n1 a4 1 0 (mup (mup (mup (mup S 27 (S 33 0) a1) 28 (S 33 0) a2) 29 (S 33 0) a3) 30 (S 33 0) a4)))
    (h47 : ∀ (n : Nat) (l4 l5 l6 : Int) (T : mS), mI T → (-2147483648 ≤ l4 ∧ l4 ≤ 2147483647) → (-2147483648 ≤ l5 ∧ l5 ≤ 2147483647) → (-2147483648 ≤ l6 ∧ l6 ≤ 2147483647) → I47 n l4 l5 l6 T → ((l4 ≤ l6) → (0 ≤ (T 33 0)) ∧ ((T 33 0) < 100) ∧ (-2147483648 ≤ (((T 36 0) - l4) : Int) ∧ ((T 36 0) - l4) ≤ 2147483647) ∧ (-2147483648 ≤ ((mup T 36 0 ((T 36 0) - l4)) 36 0) ∧ ((mup T 36 0 ((T 36 0) - l4)) 36 0) ≤ 2147483647 → (0 ≤ ((mup T 36 0 ((T 36 0) - l4)) 36 0)) ∧ (((mup T 36 0 ((T 36 0) - l4)) 36 0) < 100) ∧ (-2147483648 ≤ ((mup T 36 0 ((T 36 0) - l4)) 36 0) ∧ ((mup T 36 0 ((T 36 0) - l4)) 36 0) ≤ 2147483647 → (-2147483648 ≤ ((mup T 36 0 ((T 36 0) - l4)) 36 0) ∧ ((mup T 36 0 ((T 36 0) - l4)) 36 0) ≤ 2147483647 → (-2147483648 ≤ ((((mup T 36 0 ((T 36 0) - l4)) 36 0) + 1) : Int) ∧ (((mup T 36 0 ((T 36 0) - l4)) 36 0) + 1) ≤ 2147483647) ∧ (-2147483648 ≤ (((T 33 0) + 1) : Int) ∧ ((T 33 0) + 1) ≤ 2147483647) ∧ Qp none (mup (mup (mup (mup (mup (mup T 31 (T 33 0) l5) 36 0 ((T 36 0) - l4)) 34 ((mup T 36 0 ((T 36 0) - l4)) 36 0) (T 33 0)) 35 ((mup T 36 0 ((T 36 0) - l4)) 36 0) 0) 36 0 (((mup T 36 0 ((T 36 0) - l4)) 36 0) + 1)) 33 0 ((T 33 0) + 1)))))) ∧ (¬ (l4 ≤ l6) → (-2147483648 ≤ (((T 36 0) - 1) : Int) ∧ ((T 36 0) - 1) ≤ 2147483647) ∧ (-2147483648 ≤ ((((T 36 0) - 1) - l6) : Int) ∧ (((T 36 0) - 1) - l6) ≤ 2147483647) ∧ (0 ≤ (((T 36 0) - 1) - l6)) ∧ ((((T 36 0) - 1) - l6) < 100) ∧ (0 ≤ (T 34 (((T 36 0) - 1) - l6))) ∧ ((T 34 (((T 36 0) - 1) - l6)) < 100) ∧ (-2147483648 ≤ ((l5 + (T 31 (T 34 (((T 36 0) - 1) - l6)))) : Int) ∧ (l5 + (T 31 (T 34 (((T 36 0) - 1) - l6)))) ≤ 2147483647) ∧ (-2147483648 ≤ ((l6 + 1) : Int) ∧ (l6 + 1) ≤ 2147483647) ∧ (∃ n1, n1 < n ∧ I47 n1 l4 (l5 + (T 31 (T 34 (((T 36 0) - 1) - l6)))) (l6 + 1) T)))
    : CX_does g [mt, mi a1, mi a2, mi a3, mi a4] S Qp := by
  refine cm_y ⟨by decide, rfl⟩ (by simp [mcat]) (by simp) (fun n pc L st S => (pc = 47 ∧ ∃ (l4 : Int) (l5 : Int) (l6 : Int), L = [some mt, none, none, none, some (mi l4), some (mi l5), some (mi l6)] ∧ st = [] ∧ I47 n l4 l5 l6 S)) ?_ ?_
  · intro ha hS P Y Wk hIc
    have h := hE hS (mokI (ha (mi a1) (by simp))) (mokI (ha (mi a2) (by simp))) (mokI (ha (mi a3) (by simp))) (mokI (ha (mi a4) (by simp)))
    clear hE ha h47
    refine y_aload_n 0 Y dX6_does_0 rfl ?_
    refine y_geta 1 Y 27 dX6_does_1 rfl rfl ?_
    refine y_aload_n 4 Y dX6_does_4 rfl ?_
    refine y_getf 5 Y 33 dX6_does_5 rfl rfl (fun _ => ?_)
    refine y_iload_n 8 Y dX6_does_8 rfl ?_
    obtain ⟨o1, h⟩ := h
    obtain ⟨o2, h⟩ := h
    refine y_iast 9 Y dX6_does_9 rfl rfl o1 o2 ?_
    refine y_aload_n 10 Y dX6_does_10 rfl ?_
    refine y_geta 11 Y 28 dX6_does_11 rfl rfl ?_
    refine y_aload_n 14 Y dX6_does_14 rfl ?_
    refine y_getf 15 Y 33 dX6_does_15 rfl rfl (fun _ => ?_)
    refine y_iload_n 18 Y dX6_does_18 rfl ?_
    refine y_iast 19 Y dX6_does_19 rfl rfl o1 o2 ?_
    refine y_aload_n 20 Y dX6_does_20 rfl ?_
    refine y_geta 21 Y 29 dX6_does_21 rfl rfl ?_
    refine y_aload_n 24 Y dX6_does_24 rfl ?_
    refine y_getf 25 Y 33 dX6_does_25 rfl rfl (fun _ => ?_)
    refine y_iload_n 28 Y dX6_does_28 rfl ?_
    refine y_iast 29 Y dX6_does_29 rfl rfl o1 o2 ?_
    refine y_aload_n 30 Y dX6_does_30 rfl ?_
    refine y_geta 31 Y 30 dX6_does_31 rfl rfl ?_
    refine y_aload_n 34 Y dX6_does_34 rfl ?_
    refine y_getf 35 Y 33 dX6_does_35 rfl rfl (fun _ => ?_)
    refine y_iload 38 Y dX6_does_38 rfl ?_
    refine y_iast 40 Y dX6_does_40 rfl rfl o1 o2 ?_
    refine y_iconst 41 Y dX6_does_41 rfl ?_
    refine y_istore 42 Y [some mt, some (mi a1), some (mi a2), some (mi a3), some (mi a4), some (mi 1), none] dX6_does_42 rfl rfl ?_
    refine y_iconst 44 Y dX6_does_44 rfl ?_
    refine y_istore 45 Y [some mt, some (mi a1), some (mi a2), some (mi a3), some (mi a4), some (mi 1), some (mi 0)] dX6_does_45 rfl rfl ?_
    obtain ⟨n1, h⟩ := h
    exact Wk 47 _ [some mt, none, none, none, some (mi a4), some (mi 1), some (mi 0)] _ _ ⟨rfl, ⟨rfl, ⟨rfl, ⟨rfl, trivial⟩⟩⟩⟩ (hIc n1 _ _ _ _ ((⟨rfl, _, _, _, rfl, rfl, h⟩)))
  · intro n pc L st T hi hS hL P Y Wk hIc
    clear hE
    rcases hi with ⟨rfl, l4, l5, l6, rfl, rfl, hi⟩
    · have h := h47 n l4 l5 l6 T hS (hL 4 _ rfl) (hL 5 _ rfl) (hL 6 _ rfl) hi
      clear hL hi h47
      refine y_iload 47 Y dX6_does_47 rfl ?_
      refine y_iload 49 Y dX6_does_49 rfl ?_
      refine y_icmp 51 84 Y dX6_does_51 rfl rfl (fun c => ?_) (fun c => ?_)
      · replace h := h.1 c
        refine y_aload_n 84 Y dX6_does_84 rfl ?_
        refine y_geta 85 Y 31 dX6_does_85 rfl rfl ?_
        refine y_aload_n 88 Y dX6_does_88 rfl ?_
        refine y_getf 89 Y 33 dX6_does_89 rfl rfl (fun _ => ?_)
        refine y_iload 92 Y dX6_does_92 rfl ?_
        obtain ⟨o1, h⟩ := h
        obtain ⟨o2, h⟩ := h
        refine y_iast 94 Y dX6_does_94 rfl rfl o1 o2 ?_
        refine y_aload_n 95 Y dX6_does_95 rfl ?_
        refine y_dup 96 Y dX6_does_96 rfl ?_
        refine y_getf 97 Y 36 dX6_does_97 rfl rfl (fun _ => ?_)
        refine y_iload 100 Y dX6_does_100 rfl ?_
        obtain ⟨o3, h⟩ := h
        refine y_isub 102 Y dX6_does_102 o3 ?_
        refine y_putf 103 Y 36 dX6_does_103 rfl rfl (fun q => absurd q (by decide)) ?_
        refine y_aload_n 106 Y dX6_does_106 rfl ?_
        refine y_geta 107 Y 34 dX6_does_107 rfl rfl ?_
        refine y_aload_n 110 Y dX6_does_110 rfl ?_
        refine y_getf 111 Y 36 dX6_does_111 rfl rfl (fun q => ?_)
        replace h := h q
        refine y_aload_n 114 Y dX6_does_114 rfl ?_
        refine y_getf 115 Y 33 dX6_does_115 rfl rfl (fun _ => ?_)
        obtain ⟨o4, h⟩ := h
        obtain ⟨o5, h⟩ := h
        refine y_iast 118 Y dX6_does_118 rfl rfl o4 o5 ?_
        refine y_aload_n 119 Y dX6_does_119 rfl ?_
        refine y_geta 120 Y 35 dX6_does_120 rfl rfl ?_
        refine y_aload_n 123 Y dX6_does_123 rfl ?_
        refine y_getf 124 Y 36 dX6_does_124 rfl rfl (fun q => ?_)
        replace h := h q
        refine y_iconst 127 Y dX6_does_127 rfl ?_
        refine y_bast 128 Y dX6_does_128 rfl rfl o4 o5 (by decide) ?_
        refine y_aload_n 129 Y dX6_does_129 rfl ?_
        refine y_dup 130 Y dX6_does_130 rfl ?_
        refine y_getf 131 Y 36 dX6_does_131 rfl rfl (fun q => ?_)
        replace h := h q
        refine y_iconst 134 Y dX6_does_134 rfl ?_
        obtain ⟨o6, h⟩ := h
        refine y_iadd 135 Y dX6_does_135 o6 ?_
        refine y_putf 136 Y 36 dX6_does_136 rfl rfl (fun q => absurd q (by decide)) ?_
        refine y_aload_n 139 Y dX6_does_139 rfl ?_
        refine y_dup 140 Y dX6_does_140 rfl ?_
        refine y_getf 141 Y 33 dX6_does_141 rfl rfl (fun _ => ?_)
        refine y_iconst 144 Y dX6_does_144 rfl ?_
        obtain ⟨o7, h⟩ := h
        refine y_iadd 145 Y dX6_does_145 o7 ?_
        refine y_putf 146 Y 33 dX6_does_146 rfl rfl (fun q => absurd q (by decide)) ?_
        exact y_ret 149 Y dX6_does_149 rfl h
      · replace h := h.2 c
        refine y_iload 54 Y dX6_does_54 rfl ?_
        refine y_aload_n 56 Y dX6_does_56 rfl ?_
        refine y_geta 57 Y 31 dX6_does_57 rfl rfl ?_
        refine y_aload_n 60 Y dX6_does_60 rfl ?_
        refine y_geta 61 Y 34 dX6_does_61 rfl rfl ?_
        refine y_aload_n 64 Y dX6_does_64 rfl ?_
        refine y_getf 65 Y 36 dX6_does_65 rfl rfl (fun _ => ?_)
        refine y_iconst 68 Y dX6_does_68 rfl ?_
        obtain ⟨o8, h⟩ := h
        refine y_isub 69 Y dX6_does_69 o8 ?_
        refine y_iload 70 Y dX6_does_70 rfl ?_
        obtain ⟨o9, h⟩ := h
        refine y_isub 72 Y dX6_does_72 o9 ?_
        obtain ⟨o10, h⟩ := h
        obtain ⟨o11, h⟩ := h
        refine y_iald 73 Y dX6_does_73 rfl rfl o10 o11 (fun _ => ?_)
        obtain ⟨o12, h⟩ := h
        obtain ⟨o13, h⟩ := h
        refine y_iald 74 Y dX6_does_74 rfl rfl o12 o13 (fun _ => ?_)
        obtain ⟨o14, h⟩ := h
        refine y_iadd 75 Y dX6_does_75 o14 ?_
        refine y_istore 76 Y [some mt, none, none, none, some (mi l4), some (mi (l5 + (T 31 (T 34 (((T 36 0) - 1) - l6))))), some (mi l6)] dX6_does_76 rfl rfl ?_
        obtain ⟨o15, h⟩ := h
        refine y_iinc 78 Y [some mt, none, none, none, some (mi l4), some (mi (l5 + (T 31 (T 34 (((T 36 0) - 1) - l6))))), some (mi (l6 + 1))] dX6_does_78 rfl rfl o15 ?_
        refine y_goto 81 47 Y dX6_does_81 rfl rfl ?_
        obtain ⟨n1, hn, h⟩ := h
        exact Wk 47 _ [some mt, none, none, none, some (mi l4), some (mi (l5 + (T 31 (T 34 (((T 36 0) - 1) - l6))))), some (mi (l6 + 1))] _ _ ⟨rfl, ⟨rfl, ⟨rfl, ⟨rfl, trivial⟩⟩⟩⟩ (hIc n1 _ _ _ _ hn ((⟨rfl, _, _, _, rfl, rfl, h⟩)))
set_option maxHeartbeats 4000000 in
theorem of_drop {g : mG} {S : mS}  {Qp : Option mV → mS → Prop}
    (hE : mI S → Qp (some (mi (S 19 0))) (mup (mup S 0 0 0) 19 0 0))
    : CX_drop g [mt] S Qp := by
  refine cm_y ⟨by decide, rfl⟩ (by simp [mcat]) (by simp) (fun _ _ _ _ _ => False) ?_ ?_
  · intro ha hS P Y Wk hIc
    have h := hE hS
    clear hE ha
    refine y_aload_n 0 Y dX6_drop_0 rfl ?_
    refine y_iconst 1 Y dX6_drop_1 rfl ?_
    refine y_putf 2 Y 0 dX6_drop_2 rfl rfl (fun q => absurd q (by decide)) ?_
    refine y_aload_n 5 Y dX6_drop_5 rfl ?_
    refine y_getf 6 Y 19 dX6_drop_6 rfl rfl (fun _ => ?_)
    refine y_istore_n 9 Y [some mt, some (mi (S 19 0))] dX6_drop_9 rfl rfl ?_
    refine y_aload_n 10 Y dX6_drop_10 rfl ?_
    refine y_iconst 11 Y dX6_drop_11 rfl ?_
    refine y_putf 12 Y 19 dX6_drop_12 rfl rfl (fun q => absurd q (by decide)) ?_
    refine y_iload_n 15 Y dX6_drop_15 rfl ?_
    exact y_iret 16 Y dX6_drop_16 rfl h
  · intro n pc L st T hi
    exact hi.elim
set_option maxHeartbeats 4000000 in
theorem of_enter {g : mG} {S : mS} {a1 a2 : Int} {Qp : Option mV → mS → Prop}
    (hE : mI S → (-2147483648 ≤ a1 ∧ a1 ≤ 2147483647) → (-2147483648 ≤ a2 ∧ a2 ≤ 2147483647) → (0 ≤ (S 56 0)) ∧ ((S 56 0) < 800) ∧ (-2147483648 ≤ (((S 56 0) + 1) : Int) ∧ ((S 56 0) + 1) ≤ 2147483647) ∧ Qp none (mup (mup (mup (mup S 48 (S 56 0) a1) 49 (S 56 0) 0) 50 (S 56 0) a2) 56 0 ((S 56 0) + 1)))
    : CX_enter g [mt, mi a1, mi a2] S Qp := by
  refine cm_y ⟨by decide, rfl⟩ (by simp [mcat]) (by simp) (fun _ _ _ _ _ => False) ?_ ?_
  · intro ha hS P Y Wk hIc
    have h := hE hS (mokI (ha (mi a1) (by simp))) (mokI (ha (mi a2) (by simp)))
    clear hE ha
    refine y_aload_n 0 Y dX6_enter_0 rfl ?_
    refine y_geta 1 Y 48 dX6_enter_1 rfl rfl ?_
    refine y_aload_n 4 Y dX6_enter_4 rfl ?_
    refine y_getf 5 Y 56 dX6_enter_5 rfl rfl (fun _ => ?_)
    refine y_iload_n 8 Y dX6_enter_8 rfl ?_
    obtain ⟨o1, h⟩ := h
    obtain ⟨o2, h⟩ := h
    refine y_iast 9 Y dX6_enter_9 rfl rfl o1 o2 ?_
    refine y_aload_n 10 Y dX6_enter_10 rfl ?_
    refine y_geta 11 Y 49 dX6_enter_11 rfl rfl ?_
    refine y_aload_n 14 Y dX6_enter_14 rfl ?_
    refine y_getf 15 Y 56 dX6_enter_15 rfl rfl (fun _ => ?_)
    refine y_iconst 18 Y dX6_enter_18 rfl ?_
    refine y_iast 19 Y dX6_enter_19 rfl rfl o1 o2 ?_
    refine y_aload_n 20 Y dX6_enter_20 rfl ?_
    refine y_geta 21 Y 50 dX6_enter_21 rfl rfl ?_
    refine y_aload_n 24 Y dX6_enter_24 rfl ?_
    refine y_getf 25 Y 56 dX6_enter_25 rfl rfl (fun _ => ?_)
    refine y_iload_n 28 Y dX6_enter_28 rfl ?_
    refine y_iast 29 Y dX6_enter_29 rfl rfl o1 o2 ?_
    refine y_aload_n 30 Y dX6_enter_30 rfl ?_
    refine y_dup 31 Y dX6_enter_31 rfl ?_
    refine y_getf 32 Y 56 dX6_enter_32 rfl rfl (fun _ => ?_)
    refine y_iconst 35 Y dX6_enter_35 rfl ?_
    obtain ⟨o3, h⟩ := h
    refine y_iadd 36 Y dX6_enter_36 o3 ?_
    refine y_putf 37 Y 56 dX6_enter_37 rfl rfl (fun q => absurd q (by decide)) ?_
    exact y_ret 40 Y dX6_enter_40 rfl h
  · intro n pc L st T hi
    exact hi.elim
set_option maxHeartbeats 4000000 in
theorem of_hasOwnCall {g : mG} {S : mS} {a1 : Int} {Qp : Option mV → mS → Prop} (I4 : Nat → Int → Int → Int → mS → Prop)
    (hE : mI S → (-2147483648 ≤ a1 ∧ a1 ≤ 2147483647) → (∃ n1, I4 n1 a1 0 a1 S))
    (h4 : ∀ (n : Nat) (l1 l2 l3 : Int) (T : mS), mI T → (-2147483648 ≤ l1 ∧ l1 ≤ 2147483647) → (-2147483648 ≤ l2 ∧ l2 ≤ 2147483647) → (-2147483648 ≤ l3 ∧ l3 ≤ 2147483647) → I4 n l1 l2 l3 T → (0 ≤ l1) ∧ (l1 < 20300) ∧ (-2147483648 ≤ ((l1 + (T 8 l1)) : Int) ∧ (l1 + (T 8 l1)) ≤ 2147483647) ∧ (((l1 + (T 8 l1)) ≤ l3) → (l2 = 0 ∨ l2 = 1) ∧ Qp (some (mi l2)) T) ∧ (¬ ((l1 + (T 8 l1)) ≤ l3) → ((l2 ≠ 0) → (-2147483648 ≤ ((l3 + 1) : Int) ∧ (l3 + 1) ≤ 2147483647) ∧ (∃ n1, n1 < n ∧ I4 n1 l1 1 (l3 + 1) T)) ∧ (¬ (l2 ≠ 0) → (0 ≤ l3) ∧ (l3 < 20300) ∧ (((T 4 l3) ≠ 2) → (-2147483648 ≤ ((l3 + 1) : Int) ∧ (l3 + 1) ≤ 2147483647) ∧ (∃ n1, n1 < n ∧ I4 n1 l1 0 (l3 + 1) T)) ∧ (¬ ((T 4 l3) ≠ 2) → (((T 5 l3) = 105) → (-2147483648 ≤ ((l3 + 1) : Int) ∧ (l3 + 1) ≤ 2147483647) ∧ (∃ n1, n1 < n ∧ I4 n1 l1 1 (l3 + 1) T)) ∧ (¬ ((T 5 l3) = 105) → (((T 5 l3) ≠ 115) → (-2147483648 ≤ ((l3 + 1) : Int) ∧ (l3 + 1) ≤ 2147483647) ∧ (∃ n1, n1 < n ∧ I4 n1 l1 0 (l3 + 1) T)) ∧ (¬ ((T 5 l3) ≠ 115) → (-2147483648 ≤ ((l3 + 1) : Int) ∧ (l3 + 1) ≤ 2147483647) ∧ (∃ n1, n1 < n ∧ I4 n1 l1 1 (l3 + 1) T)))))))
    : CX_hasOwnCall g [mt, mi a1] S Qp := by
  refine cm_y ⟨by decide, rfl⟩ (by simp [mcat]) (by simp) (fun n pc L st S => (pc = 4 ∧ ∃ (l1 : Int) (l2 : Int) (l3 : Int), L = [some mt, some (mi l1), some (mi l2), some (mi l3)] ∧ st = [] ∧ I4 n l1 l2 l3 S)) ?_ ?_
  · intro ha hS P Y Wk hIc
    have h := hE hS (mokI (ha (mi a1) (by simp)))
    clear hE ha h4
    refine y_iconst 0 Y dX6_hasOwnCall_0 rfl ?_
    refine y_istore_n 1 Y [some mt, some (mi a1), some (mi 0), none] dX6_hasOwnCall_1 rfl rfl ?_
    refine y_iload_n 2 Y dX6_hasOwnCall_2 rfl ?_
    refine y_istore_n 3 Y [some mt, some (mi a1), some (mi 0), some (mi a1)] dX6_hasOwnCall_3 rfl rfl ?_
    obtain ⟨n1, h⟩ := h
    exact Wk 4 _ [some mt, some (mi a1), some (mi 0), some (mi a1)] _ _ ⟨rfl, ⟨rfl, ⟨rfl, ⟨rfl, trivial⟩⟩⟩⟩ (hIc n1 _ _ _ _ ((⟨rfl, _, _, _, rfl, rfl, h⟩)))
  · intro n pc L st T hi hS hL P Y Wk hIc
    clear hE
    rcases hi with ⟨rfl, l1, l2, l3, rfl, rfl, hi⟩
    · have h := h4 n l1 l2 l3 T hS (hL 1 _ rfl) (hL 2 _ rfl) (hL 3 _ rfl) hi
      clear hL hi h4
      refine y_iload_n 4 Y dX6_hasOwnCall_4 rfl ?_
      refine y_iload_n 5 Y dX6_hasOwnCall_5 rfl ?_
      refine y_aload_n 6 Y dX6_hasOwnCall_6 rfl ?_
      refine y_geta 7 Y 8 dX6_hasOwnCall_7 rfl rfl ?_
      refine y_iload_n 10 Y dX6_hasOwnCall_10 rfl ?_
      obtain ⟨o1, h⟩ := h
      obtain ⟨o2, h⟩ := h
      refine y_iald 11 Y dX6_hasOwnCall_11 rfl rfl o1 o2 (fun _ => ?_)
      obtain ⟨o3, h⟩ := h
      refine y_iadd 12 Y dX6_hasOwnCall_12 o3 ?_
      refine y_icmp 13 64 Y dX6_hasOwnCall_13 rfl rfl (fun c => ?_) (fun c => ?_)
      · replace h := h.1 c
        refine y_iload_n 64 Y dX6_hasOwnCall_64 rfl ?_
        exact y_zret 65 Y dX6_hasOwnCall_65 rfl h.1 h.2
      · replace h := h.2 c
        refine y_iload_n 16 Y dX6_hasOwnCall_16 rfl ?_
        refine y_if 17 52 Y dX6_hasOwnCall_17 rfl rfl (fun c => ?_) (fun c => ?_)
        · replace h := h.1 c
          refine y_iconst 52 Y dX6_hasOwnCall_52 rfl ?_
          refine y_goto 53 57 Y dX6_hasOwnCall_53 rfl rfl ?_
          refine y_istore_n 57 Y [some mt, some (mi l1), some (mi 1), some (mi l3)] dX6_hasOwnCall_57 rfl rfl ?_
          obtain ⟨o4, h⟩ := h
          refine y_iinc 58 Y [some mt, some (mi l1), some (mi 1), some (mi (l3 + 1))] dX6_hasOwnCall_58 rfl rfl o4 ?_
          refine y_goto 61 4 Y dX6_hasOwnCall_61 rfl rfl ?_
          obtain ⟨n1, hn, h⟩ := h
          exact Wk 4 _ [some mt, some (mi l1), some (mi 1), some (mi (l3 + 1))] _ _ ⟨rfl, ⟨rfl, ⟨rfl, ⟨rfl, trivial⟩⟩⟩⟩ (hIc n1 _ _ _ _ hn ((⟨rfl, _, _, _, rfl, rfl, h⟩)))
        · replace h := h.2 c
          refine y_aload_n 20 Y dX6_hasOwnCall_20 rfl ?_
          refine y_geta 21 Y 4 dX6_hasOwnCall_21 rfl rfl ?_
          refine y_iload_n 24 Y dX6_hasOwnCall_24 rfl ?_
          obtain ⟨o5, h⟩ := h
          obtain ⟨o6, h⟩ := h
          refine y_iald 25 Y dX6_hasOwnCall_25 rfl rfl o5 o6 (fun _ => ?_)
          refine y_iconst 26 Y dX6_hasOwnCall_26 rfl ?_
          refine y_icmp 27 56 Y dX6_hasOwnCall_27 rfl rfl (fun c => ?_) (fun c => ?_)
          · replace h := h.1 c
            refine y_iconst 56 Y dX6_hasOwnCall_56 rfl ?_
            refine y_istore_n 57 Y [some mt, some (mi l1), some (mi 0), some (mi l3)] dX6_hasOwnCall_57 rfl rfl ?_
            obtain ⟨o7, h⟩ := h
            refine y_iinc 58 Y [some mt, some (mi l1), some (mi 0), some (mi (l3 + 1))] dX6_hasOwnCall_58 rfl rfl o7 ?_
            refine y_goto 61 4 Y dX6_hasOwnCall_61 rfl rfl ?_
            obtain ⟨n1, hn, h⟩ := h
            exact Wk 4 _ [some mt, some (mi l1), some (mi 0), some (mi (l3 + 1))] _ _ ⟨rfl, ⟨rfl, ⟨rfl, ⟨rfl, trivial⟩⟩⟩⟩ (hIc n1 _ _ _ _ hn ((⟨rfl, _, _, _, rfl, rfl, h⟩)))
          · replace h := h.2 c
            refine y_aload_n 30 Y dX6_hasOwnCall_30 rfl ?_
            refine y_geta 31 Y 5 dX6_hasOwnCall_31 rfl rfl ?_
            refine y_iload_n 34 Y dX6_hasOwnCall_34 rfl ?_
            refine y_iald 35 Y dX6_hasOwnCall_35 rfl rfl o5 o6 (fun _ => ?_)
            refine y_bipush 36 Y dX6_hasOwnCall_36 rfl ?_
            refine y_icmp 38 52 Y dX6_hasOwnCall_38 rfl rfl (fun c => ?_) (fun c => ?_)
            · replace h := h.1 c
              refine y_iconst 52 Y dX6_hasOwnCall_52 rfl ?_
              refine y_goto 53 57 Y dX6_hasOwnCall_53 rfl rfl ?_
              refine y_istore_n 57 Y [some mt, some (mi l1), some (mi 1), some (mi l3)] dX6_hasOwnCall_57 rfl rfl ?_
              obtain ⟨o8, h⟩ := h
              refine y_iinc 58 Y [some mt, some (mi l1), some (mi 1), some (mi (l3 + 1))] dX6_hasOwnCall_58 rfl rfl o8 ?_
              refine y_goto 61 4 Y dX6_hasOwnCall_61 rfl rfl ?_
              obtain ⟨n1, hn, h⟩ := h
              exact Wk 4 _ [some mt, some (mi l1), some (mi 1), some (mi (l3 + 1))] _ _ ⟨rfl, ⟨rfl, ⟨rfl, ⟨rfl, trivial⟩⟩⟩⟩ (hIc n1 _ _ _ _ hn ((⟨rfl, _, _, _, rfl, rfl, h⟩)))
            · replace h := h.2 c
              refine y_aload_n 41 Y dX6_hasOwnCall_41 rfl ?_
              refine y_geta 42 Y 5 dX6_hasOwnCall_42 rfl rfl ?_
              refine y_iload_n 45 Y dX6_hasOwnCall_45 rfl ?_
              refine y_iald 46 Y dX6_hasOwnCall_46 rfl rfl o5 o6 (fun _ => ?_)
              refine y_bipush 47 Y dX6_hasOwnCall_47 rfl ?_
              refine y_icmp 49 56 Y dX6_hasOwnCall_49 rfl rfl (fun c => ?_) (fun c => ?_)
              · replace h := h.1 c
                refine y_iconst 56 Y dX6_hasOwnCall_56 rfl ?_
                refine y_istore_n 57 Y [some mt, some (mi l1), some (mi 0), some (mi l3)] dX6_hasOwnCall_57 rfl rfl ?_
                obtain ⟨o9, h⟩ := h
                refine y_iinc 58 Y [some mt, some (mi l1), some (mi 0), some (mi (l3 + 1))] dX6_hasOwnCall_58 rfl rfl o9 ?_
                refine y_goto 61 4 Y dX6_hasOwnCall_61 rfl rfl ?_
                obtain ⟨n1, hn, h⟩ := h
                exact Wk 4 _ [some mt, some (mi l1), some (mi 0), some (mi (l3 + 1))] _ _ ⟨rfl, ⟨rfl, ⟨rfl, ⟨rfl, trivial⟩⟩⟩⟩ (hIc n1 _ _ _ _ hn ((⟨rfl, _, _, _, rfl, rfl, h⟩)))
              · replace h := h.2 c
                refine y_iconst 52 Y dX6_hasOwnCall_52 rfl ?_
                refine y_goto 53 57 Y dX6_hasOwnCall_53 rfl rfl ?_
                refine y_istore_n 57 Y [some mt, some (mi l1), some (mi 1), some (mi l3)] dX6_hasOwnCall_57 rfl rfl ?_
                obtain ⟨o10, h⟩ := h
                refine y_iinc 58 Y [some mt, some (mi l1), some (mi 1), some (mi (l3 + 1))] dX6_hasOwnCall_58 rfl rfl o10 ?_
                refine y_goto 61 4 Y dX6_hasOwnCall_61 rfl rfl ?_
                obtain ⟨n1, hn, h⟩ := h
                exact Wk 4 _ [some mt, some (mi l1), some (mi 1), some (mi (l3 + 1))] _ _ ⟨rfl, ⟨rfl, ⟨rfl, ⟨rfl, trivial⟩⟩⟩⟩ (hIc n1 _ _ _ _ hn ((⟨rfl, _, _, _, rfl, rfl, h⟩)))
set_option maxHeartbeats 4000000 in
theorem of_hold {g : mG} {S : mS} {a1 a2 a3 : Int} {Qp : Option mV → mS → Prop} (I3 : Nat → Int → Int → Int → Int → mS → Prop)
    (hE : mI S → (-2147483648 ≤ a1 ∧ a1 ≤ 2147483647) → (-2147483648 ≤ a2 ∧ a2 ≤ 2147483647) → (-2147483648 ≤ a3 ∧ a3 ≤ 2147483647) → (∃ n1, I3 n1 a1 a2 a3 0 S))
    (h3 : ∀ (n : Nat) (l1 l2 l3 l4 : Int) (T : mS), mI T → (-2147483648 ≤ l1 ∧ l1 ≤ 2147483647) → (-2147483648 ≤ l2 ∧ l2 ≤ 2147483647) → (-2147483648 ≤ l3 ∧ l3 ≤ 2147483647) → (-2147483648 ≤ l4 ∧ l4 ≤ 2147483647) → I3 n l1 l2 l3 l4 T → ((13 ≤ l4) → Qp none T) ∧ (¬ (13 ≤ l4) → (-2147483648 ≤ ((28 * l1) : Int) ∧ (28 * l1) ≤ 2147483647) ∧ (-2147483648 ≤ (((28 * l1) + l3) : Int) ∧ ((28 * l1) + l3) ≤ 2147483647) ∧ (-2147483648 ≤ ((((28 * l1) + l3) + l4) : Int) ∧ (((28 * l1) + l3) + l4) ≤ 2147483647) ∧ (0 ≤ l2) ∧ (l2 < 16) ∧ (((T 2 l2) ≤ l4) → (0 ≤ (((28 * l1) + l3) + l4)) ∧ ((((28 * l1) + l3) + l4) < 104160) ∧ (-2147483648 ≤ ((l4 + 1) : Int) ∧ (l4 + 1) ≤ 2147483647) ∧ (∃ n1, n1 < n ∧ I3 n1 l1 l2 l3 (l4 + 1) (mup T 3 (((28 * l1) + l3) + l4) 0))) ∧ (¬ ((T 2 l2) ≤ l4) → (-2147483648 ≤ ((440 * l2) : Int) ∧ (440 * l2) ≤ 2147483647) ∧ (-2147483648 ≤ (((440 * l2) + l4) : Int) ∧ ((440 * l2) + l4) ≤ 2147483647) ∧ (0 ≤ ((440 * l2) + l4)) ∧ (((440 * l2) + l4) < 7040) ∧ (0 ≤ (((28 * l1) + l3) + l4)) ∧ ((((28 * l1) + l3) + l4) < 104160) ∧ (-2147483648 ≤ ((l4 + 1) : Int) ∧ (l4 + 1) ≤ 2147483647) ∧ (∃ n1, n1 < n ∧ I3 n1 l1 l2 l3 (l4 + 1) (mup T 3 (((28 * l1) + l3) + l4) (T 1 ((440 * l2) + l4)))))))
    : CX_hold g [mt, mi a1, mi a2, mi a3] S Qp := by
  refine cm_y ⟨by decide, rfl⟩ (by simp [mcat]) (by simp) (fun n pc L st S => (pc = 3 ∧ ∃ (l1 : Int) (l2 : Int) (l3 : Int) (l4 : Int), L = [some mt, some (mi l1), some (mi l2), some (mi l3), some (mi l4)] ∧ st = [] ∧ I3 n l1 l2 l3 l4 S)) ?_ ?_
  · intro ha hS P Y Wk hIc
    have h := hE hS (mokI (ha (mi a1) (by simp))) (mokI (ha (mi a2) (by simp))) (mokI (ha (mi a3) (by simp)))
    clear hE ha h3
    refine y_iconst 0 Y dX6_hold_0 rfl ?_
    refine y_istore 1 Y [some mt, some (mi a1), some (mi a2), some (mi a3), some (mi 0)] dX6_hold_1 rfl rfl ?_
    obtain ⟨n1, h⟩ := h
    exact Wk 3 _ [some mt, some (mi a1), some (mi a2), some (mi a3), some (mi 0)] _ _ ⟨rfl, ⟨rfl, ⟨rfl, ⟨rfl, ⟨rfl, trivial⟩⟩⟩⟩⟩ (hIc n1 _ _ _ _ ((⟨rfl, _, _, _, _, rfl, rfl, h⟩)))
  · intro n pc L st T hi hS hL P Y Wk hIc
    clear hE
    rcases hi with ⟨rfl, l1, l2, l3, l4, rfl, rfl, hi⟩
    · have h := h3 n l1 l2 l3 l4 T hS (hL 1 _ rfl) (hL 2 _ rfl) (hL 3 _ rfl) (hL 4 _ rfl) hi
      clear hL hi h3
      refine y_iload 3 Y dX6_hold_3 rfl ?_
      refine y_bipush 5 Y dX6_hold_5 rfl ?_
      refine y_icmp 7 58 Y dX6_hold_7 rfl rfl (fun c => ?_) (fun c => ?_)
      · replace h := h.1 c
        exact y_ret 58 Y dX6_hold_58 rfl h
      · replace h := h.2 c
        refine y_aload_n 10 Y dX6_hold_10 rfl ?_
        refine y_geta 11 Y 3 dX6_hold_11 rfl rfl ?_
        refine y_bipush 14 Y dX6_hold_14 rfl ?_
        refine y_iload_n 16 Y dX6_hold_16 rfl ?_
        obtain ⟨o1, h⟩ := h
        refine y_imul 17 Y dX6_hold_17 o1 ?_
        refine y_iload_n 18 Y dX6_hold_18 rfl ?_
        obtain ⟨o2, h⟩ := h
        refine y_iadd 19 Y dX6_hold_19 o2 ?_
        refine y_iload 20 Y dX6_hold_20 rfl ?_
        obtain ⟨o3, h⟩ := h
        refine y_iadd 22 Y dX6_hold_22 o3 ?_
        refine y_iload 23 Y dX6_hold_23 rfl ?_
        refine y_aload_n 25 Y dX6_hold_25 rfl ?_
        refine y_geta 26 Y 2 dX6_hold_26 rfl rfl ?_
        refine y_iload_n 29 Y dX6_hold_29 rfl ?_
        obtain ⟨o4, h⟩ := h
        obtain ⟨o5, h⟩ := h
        refine y_iald 30 Y dX6_hold_30 rfl rfl o4 o5 (fun _ => ?_)
        refine y_icmp 31 50 Y dX6_hold_31 rfl rfl (fun c => ?_) (fun c => ?_)
        · replace h := h.1 c
          refine y_iconst 50 Y dX6_hold_50 rfl ?_
          obtain ⟨o6, h⟩ := h
          obtain ⟨o7, h⟩ := h
          refine y_iast 51 Y dX6_hold_51 rfl rfl o6 o7 ?_
          obtain ⟨o8, h⟩ := h
          refine y_iinc 52 Y [some mt, some (mi l1), some (mi l2), some (mi l3), some (mi (l4 + 1))] dX6_hold_52 rfl rfl o8 ?_
          refine y_goto 55 3 Y dX6_hold_55 rfl rfl ?_
          obtain ⟨n1, hn, h⟩ := h
          exact Wk 3 _ [some mt, some (mi l1), some (mi l2), some (mi l3), some (mi (l4 + 1))] _ _ ⟨rfl, ⟨rfl, ⟨rfl, ⟨rfl, ⟨rfl, trivial⟩⟩⟩⟩⟩ (hIc n1 _ _ _ _ hn ((⟨rfl, _, _, _, _, rfl, rfl, h⟩)))
        · replace h := h.2 c
          refine y_aload_n 34 Y dX6_hold_34 rfl ?_
          refine y_geta 35 Y 1 dX6_hold_35 rfl rfl ?_
          refine y_sipush 38 Y dX6_hold_38 rfl ?_
          refine y_iload_n 41 Y dX6_hold_41 rfl ?_
          obtain ⟨o9, h⟩ := h
          refine y_imul 42 Y dX6_hold_42 o9 ?_
          refine y_iload 43 Y dX6_hold_43 rfl ?_
          obtain ⟨o10, h⟩ := h
          refine y_iadd 45 Y dX6_hold_45 o10 ?_
          obtain ⟨o11, h⟩ := h
          obtain ⟨o12, h⟩ := h
          refine y_iald 46 Y dX6_hold_46 rfl rfl o11 o12 (fun _ => ?_)
          refine y_goto 47 51 Y dX6_hold_47 rfl rfl ?_
          obtain ⟨o13, h⟩ := h
          obtain ⟨o14, h⟩ := h
          refine y_iast 51 Y dX6_hold_51 rfl rfl o13 o14 ?_
          obtain ⟨o15, h⟩ := h
          refine y_iinc 52 Y [some mt, some (mi l1), some (mi l2), some (mi l3), some (mi (l4 + 1))] dX6_hold_52 rfl rfl o15 ?_
          refine y_goto 55 3 Y dX6_hold_55 rfl rfl ?_
          obtain ⟨n1, hn, h⟩ := h
          exact Wk 3 _ [some mt, some (mi l1), some (mi l2), some (mi l3), some (mi (l4 + 1))] _ _ ⟨rfl, ⟨rfl, ⟨rfl, ⟨rfl, ⟨rfl, trivial⟩⟩⟩⟩⟩ (hIc n1 _ _ _ _ hn ((⟨rfl, _, _, _, _, rfl, rfl, h⟩)))
set_option maxHeartbeats 4000000 in
theorem of_holds {g : mG} {S : mS} {a1 a2 : Int} {Qp : Option mV → mS → Prop}
    (hE : mI S → (-2147483648 ≤ a1 ∧ a1 ≤ 2147483647) → (-2147483648 ≤ a2 ∧ a2 ≤ 2147483647) → (0 ≤ a1) ∧ (a1 < 800) ∧ ((a2 = 0) → (-2147483648 ≤ (((S 55 a1) + 0) : Int) ∧ ((S 55 a1) + 0) ≤ 2147483647) ∧ ((a2 = 0) → (-2147483648 ≤ (((S 53 a1) + 1) : Int) ∧ ((S 53 a1) + 1) ≤ 2147483647) ∧ Qp none (mup (mup (mup S 55 a1 ((S 55 a1) + 0)) 54 a1 (S 54 a1)) 53 a1 ((S 53 a1) + 1))) ∧ (¬ (a2 = 0) → (-2147483648 ≤ (((S 53 a1) + 1) : Int) ∧ ((S 53 a1) + 1) ≤ 2147483647) ∧ Qp none (mup (mup (mup S 55 a1 ((S 55 a1) + 0)) 54 a1 (S 53 a1)) 53 a1 ((S 53 a1) + 1)))) ∧ (¬ (a2 = 0) → (-2147483648 ≤ (((S 55 a1) + 1) : Int) ∧ ((S 55 a1) + 1) ≤ 2147483647) ∧ ((a2 = 0) → (-2147483648 ≤ (((S 53 a1) + 1) : Int) ∧ ((S 53 a1) + 1) ≤ 2147483647) ∧ Qp none (mup (mup (mup S 55 a1 ((S 55 a1) + 1)) 54 a1 (S 54 a1)) 53 a1 ((S 53 a1) + 1))) ∧ (¬ (a2 = 0) → (-2147483648 ≤ (((S 53 a1) + 1) : Int) ∧ ((S 53 a1) + 1) ≤ 2147483647) ∧ Qp none (mup (mup (mup S 55 a1 ((S 55 a1) + 1)) 54 a1 (S 53 a1)) 53 a1 ((S 53 a1) + 1)))))
    : CX_holds g [mt, mi a1, mi a2] S Qp := by
  refine cm_y ⟨by decide, rfl⟩ (by simp [mcat]) (by simp) (fun _ _ _ _ _ => False) ?_ ?_
  · intro ha hS P Y Wk hIc
    have h := hE hS (mokI (ha (mi a1) (by simp))) (mokI (ha (mi a2) (by simp)))
    clear hE ha
    refine y_aload_n 0 Y dX6_holds_0 rfl ?_
    refine y_geta 1 Y 55 dX6_holds_1 rfl rfl ?_
    refine y_iload_n 4 Y dX6_holds_4 rfl ?_
    refine y_dup2 5 Y dX6_holds_5 rfl rfl ?_
    obtain ⟨o1, h⟩ := h
    obtain ⟨o2, h⟩ := h
    refine y_iald 6 Y dX6_holds_6 rfl rfl o1 o2 (fun _ => ?_)
    refine y_iload_n 7 Y dX6_holds_7 rfl ?_
    refine y_if 8 15 Y dX6_holds_8 rfl rfl (fun c => ?_) (fun c => ?_)
    · replace h := h.1 c
      refine y_iconst 15 Y dX6_holds_15 rfl ?_
      obtain ⟨o3, h⟩ := h
      refine y_iadd 16 Y dX6_holds_16 o3 ?_
      refine y_iast 17 Y dX6_holds_17 rfl rfl o1 o2 ?_
      refine y_aload_n 18 Y dX6_holds_18 rfl ?_
      refine y_geta 19 Y 54 dX6_holds_19 rfl rfl ?_
      refine y_iload_n 22 Y dX6_holds_22 rfl ?_
      refine y_iload_n 23 Y dX6_holds_23 rfl ?_
      refine y_if 24 36 Y dX6_holds_24 rfl rfl (fun c => ?_) (fun c => ?_)
      · replace h := h.1 c
        refine y_aload_n 36 Y dX6_holds_36 rfl ?_
        refine y_geta 37 Y 54 dX6_holds_37 rfl rfl ?_
        refine y_iload_n 40 Y dX6_holds_40 rfl ?_
        refine y_iald 41 Y dX6_holds_41 rfl rfl o1 o2 (fun _ => ?_)
        refine y_iast 42 Y dX6_holds_42 rfl rfl o1 o2 ?_
        refine y_aload_n 43 Y dX6_holds_43 rfl ?_
        refine y_geta 44 Y 53 dX6_holds_44 rfl rfl ?_
        refine y_iload_n 47 Y dX6_holds_47 rfl ?_
        refine y_dup2 48 Y dX6_holds_48 rfl rfl ?_
        refine y_iald 49 Y dX6_holds_49 rfl rfl o1 o2 (fun _ => ?_)
        refine y_iconst 50 Y dX6_holds_50 rfl ?_
        obtain ⟨o4, h⟩ := h
        refine y_iadd 51 Y dX6_holds_51 o4 ?_
        refine y_iast 52 Y dX6_holds_52 rfl rfl o1 o2 ?_
        exact y_ret 53 Y dX6_holds_53 rfl h
      · replace h := h.2 c
        refine y_aload_n 27 Y dX6_holds_27 rfl ?_
        refine y_geta 28 Y 53 dX6_holds_28 rfl rfl ?_
        refine y_iload_n 31 Y dX6_holds_31 rfl ?_
        refine y_iald 32 Y dX6_holds_32 rfl rfl o1 o2 (fun _ => ?_)
        refine y_goto 33 42 Y dX6_holds_33 rfl rfl ?_
        refine y_iast 42 Y dX6_holds_42 rfl rfl o1 o2 ?_
        refine y_aload_n 43 Y dX6_holds_43 rfl ?_
        refine y_geta 44 Y 53 dX6_holds_44 rfl rfl ?_
        refine y_iload_n 47 Y dX6_holds_47 rfl ?_
        refine y_dup2 48 Y dX6_holds_48 rfl rfl ?_
        refine y_iald 49 Y dX6_holds_49 rfl rfl o1 o2 (fun _ => ?_)
        refine y_iconst 50 Y dX6_holds_50 rfl ?_
        obtain ⟨o5, h⟩ := h
        refine y_iadd 51 Y dX6_holds_51 o5 ?_
        refine y_iast 52 Y dX6_holds_52 rfl rfl o1 o2 ?_
        exact y_ret 53 Y dX6_holds_53 rfl h
    · replace h := h.2 c
      refine y_iconst 11 Y dX6_holds_11 rfl ?_
      refine y_goto 12 16 Y dX6_holds_12 rfl rfl ?_
      obtain ⟨o6, h⟩ := h
      refine y_iadd 16 Y dX6_holds_16 o6 ?_
      refine y_iast 17 Y dX6_holds_17 rfl rfl o1 o2 ?_
      refine y_aload_n 18 Y dX6_holds_18 rfl ?_
      refine y_geta 19 Y 54 dX6_holds_19 rfl rfl ?_
      refine y_iload_n 22 Y dX6_holds_22 rfl ?_
      refine y_iload_n 23 Y dX6_holds_23 rfl ?_
      refine y_if 24 36 Y dX6_holds_24 rfl rfl (fun c => ?_) (fun c => ?_)
      · replace h := h.1 c
        refine y_aload_n 36 Y dX6_holds_36 rfl ?_
        refine y_geta 37 Y 54 dX6_holds_37 rfl rfl ?_
        refine y_iload_n 40 Y dX6_holds_40 rfl ?_
        refine y_iald 41 Y dX6_holds_41 rfl rfl o1 o2 (fun _ => ?_)
        refine y_iast 42 Y dX6_holds_42 rfl rfl o1 o2 ?_
        refine y_aload_n 43 Y dX6_holds_43 rfl ?_
        refine y_geta 44 Y 53 dX6_holds_44 rfl rfl ?_
        refine y_iload_n 47 Y dX6_holds_47 rfl ?_
        refine y_dup2 48 Y dX6_holds_48 rfl rfl ?_
        refine y_iald 49 Y dX6_holds_49 rfl rfl o1 o2 (fun _ => ?_)
        refine y_iconst 50 Y dX6_holds_50 rfl ?_
        obtain ⟨o7, h⟩ := h
        refine y_iadd 51 Y dX6_holds_51 o7 ?_
        refine y_iast 52 Y dX6_holds_52 rfl rfl o1 o2 ?_
        exact y_ret 53 Y dX6_holds_53 rfl h
      · replace h := h.2 c
        refine y_aload_n 27 Y dX6_holds_27 rfl ?_
        refine y_geta 28 Y 53 dX6_holds_28 rfl rfl ?_
        refine y_iload_n 31 Y dX6_holds_31 rfl ?_
        refine y_iald 32 Y dX6_holds_32 rfl rfl o1 o2 (fun _ => ?_)
        refine y_goto 33 42 Y dX6_holds_33 rfl rfl ?_
        refine y_iast 42 Y dX6_holds_42 rfl rfl o1 o2 ?_
        refine y_aload_n 43 Y dX6_holds_43 rfl ?_
        refine y_geta 44 Y 53 dX6_holds_44 rfl rfl ?_
        refine y_iload_n 47 Y dX6_holds_47 rfl ?_
        refine y_dup2 48 Y dX6_holds_48 rfl rfl ?_
        refine y_iald 49 Y dX6_holds_49 rfl rfl o1 o2 (fun _ => ?_)
        refine y_iconst 50 Y dX6_holds_50 rfl ?_
        obtain ⟨o8, h⟩ := h
        refine y_iadd 51 Y dX6_holds_51 o8 ?_
        refine y_iast 52 Y dX6_holds_52 rfl rfl o1 o2 ?_
        exact y_ret 53 Y dX6_holds_53 rfl h
  · intro n pc L st T hi
    exact hi.elim
set_option maxHeartbeats 4000000 in
theorem of_in {g : mG} {S : mS} {a1 a2 a3 : Int} {Qp : Option mV → mS → Prop}
    (hE : mI S → (-2147483648 ≤ a1 ∧ a1 ≤ 2147483647) → (-2147483648 ≤ a2 ∧ a2 ≤ 2147483647) → (-2147483648 ≤ a3 ∧ a3 ≤ 2147483647) → ((a1 < a2) → Qp (some (mi 0)) S) ∧ (¬ (a1 < a2) → ((a3 < a1) → Qp (some (mi 0)) S) ∧ (¬ (a3 < a1) → Qp (some (mi 1)) S)))
    : CX_in g [mi a1, mi a2, mi a3] S Qp := by
  refine cm_y ⟨by decide, rfl⟩ (by simp [mcat]) (by simp) (fun _ _ _ _ _ => False) ?_ ?_
  · intro ha hS P Y Wk hIc
    have h := hE hS (mokI (ha (mi a1) (by simp))) (mokI (ha (mi a2) (by simp))) (mokI (ha (mi a3) (by simp)))
    clear hE ha
    refine y_iload_n 0 Y dX6_in_0 rfl ?_
    refine y_iload_n 1 Y dX6_in_1 rfl ?_
    refine y_icmp 2 14 Y dX6_in_2 rfl rfl (fun c => ?_) (fun c => ?_)
    · replace h := h.1 c
      refine y_iconst 14 Y dX6_in_14 rfl ?_
      exact y_zret 15 Y dX6_in_15 rfl (by decide) h
    · replace h := h.2 c
      refine y_iload_n 5 Y dX6_in_5 rfl ?_
      refine y_iload_n 6 Y dX6_in_6 rfl ?_
      refine y_icmp 7 14 Y dX6_in_7 rfl rfl (fun c => ?_) (fun c => ?_)
      · replace h := h.1 c
        refine y_iconst 14 Y dX6_in_14 rfl ?_
        exact y_zret 15 Y dX6_in_15 rfl (by decide) h
      · replace h := h.2 c
        refine y_iconst 10 Y dX6_in_10 rfl ?_
        refine y_goto 11 15 Y dX6_in_11 rfl rfl ?_
        exact y_zret 15 Y dX6_in_15 rfl (by decide) h
  · intro n pc L st T hi
    exact hi.elim
set_option maxHeartbeats 4000000 in
theorem of_inOrder {g : mG} {S : mS} {a1 : Int} {Qp : Option mV → mS → Prop} (I6 : Nat → Int → Int → Int → mS → Prop) (I23 : Nat → Int → Int → Int → Int → mS → Prop)
    (hE : mI S → (-2147483648 ≤ a1 ∧ a1 ≤ 2147483647) → (-2147483648 ≤ ((a1 + 1) : Int) ∧ (a1 + 1) ≤ 2147483647) ∧ (∃ n1, I6 n1 a1 0 (a1 + 1) S))
    (h6 : ∀ (n : Nat) (l1 l2 l3 : Int) (T : mS), mI T → (-2147483648 ≤ l1 ∧ l1 ≤ 2147483647) → (-2147483648 ≤ l2 ∧ l2 ≤ 2147483647) → (-2147483648 ≤ l3 ∧ l3 ≤ 2147483647) → I6 n l1 l2 l3 T → (0 ≤ l1) ∧ (l1 < 20300) ∧ (-2147483648 ≤ ((l1 + (T 8 l1)) : Int) ∧ (l1 + (T 8 l1)) ≤ 2147483647) ∧ (((l1 + (T 8 l1)) < l3) → Qp (some (mi l2)) T) ∧ (¬ ((l1 + (T 8 l1)) < l3) → (-2147483648 ≤ ((l3 - 1) : Int) ∧ (l3 - 1) ≤ 2147483647) ∧ (∃ n1, n1 < n ∧ I23 n1 l1 l2 l3 (l3 - 1) T)))
    (h23 : ∀ (n : Nat) (l1 l2 l3 l4 : Int) (T : mS), mI T → (-2147483648 ≤ l1 ∧ l1 ≤ 2147483647) → (-2147483648 ≤ l2 ∧ l2 ≤ 2147483647) → (-2147483648 ≤ l3 ∧ l3 ≤ 2147483647) → (-2147483648 ≤ l4 ∧ l4 ≤ 2147483647) → I23 n l1 l2 l3 l4 T → ((l4 < l1) → (-2147483648 ≤ ((l3 + 1) : Int) ∧ (l3 + 1) ≤ 2147483647) ∧ (∃ n1, n1 < n ∧ I6 n1 l1 l2 (l3 + 1) T)) ∧ (¬ (l4 < l1) → (0 ≤ l4) ∧ (l4 < 20300) ∧ (-2147483648 ≤ ((l4 + (T 8 l4)) : Int) ∧ (l4 + (T 8 l4)) ≤ 2147483647) ∧ (((l4 + (T 8 l4)) ≠ l3) → (-2147483648 ≤ ((l4 + (-1)) : Int) ∧ (l4 + (-1)) ≤ 2147483647) ∧ (∃ n1, n1 < n ∧ I23 n1 l1 l2 l3 (l4 + (-1)) T)) ∧ (¬ ((l4 + (T 8 l4)) ≠ l3) → (0 ≤ l2) ∧ (l2 < 100) ∧ (-2147483648 ≤ ((l2 + 1) : Int) ∧ (l2 + 1) ≤ 2147483647) ∧ (-2147483648 ≤ ((l4 + (-1)) : Int) ∧ (l4 + (-1)) ≤ 2147483647) ∧ (∃ n1, n1 < n ∧ I23 n1 l1 (l2 + 1) l3 (l4 + (-1)) (mup T 14 l2 l4)))))
    : CX_inOrder g [mt, mi a1] S Qp := by
  refine cm_y ⟨by decide, rfl⟩ (by simp [mcat]) (by simp) (fun n pc L st S => (pc = 6 ∧ ∃ (l1 : Int) (l2 : Int) (l3 : Int), L = [some mt, some (mi l1), some (mi l2), some (mi l3), none] ∧ st = [] ∧ I6 n l1 l2 l3 S) ∨ (pc = 23 ∧ ∃ (l1 : Int) (l2 : Int) (l3 : Int) (l4 : Int), L = [some mt, some (mi l1), some (mi l2), some (mi l3), some (mi l4)] ∧ st = [] ∧ I23 n l1 l2 l3 l4 S)) ?_ ?_
  · intro ha hS P Y Wk hIc
    have h := hE hS (mokI (ha (mi a1) (by simp)))
    clear hE ha h6 h23
    refine y_iconst 0 Y dX6_inOrder_0 rfl ?_
    refine y_istore_n 1 Y [some mt, some (mi a1), some (mi 0), none, none] dX6_inOrder_1 rfl rfl ?_
    refine y_iload_n 2 Y dX6_inOrder_2 rfl ?_
    refine y_iconst 3 Y dX6_inOrder_3 rfl ?_
    obtain ⟨o1, h⟩ := h
    refine y_iadd 4 Y dX6_inOrder_4 o1 ?_
    refine y_istore_n 5 Y [some mt, some (mi a1), some (mi 0), some (mi (a1 + 1)), none] dX6_inOrder_5 rfl rfl ?_
    obtain ⟨n1, h⟩ := h
    exact Wk 6 _ [some mt, some (mi a1), some (mi 0), some (mi (a1 + 1)), none] _ _ ⟨rfl, ⟨rfl, ⟨rfl, ⟨rfl, trivial⟩⟩⟩⟩ (hIc n1 _ _ _ _ (Or.inl (⟨rfl, _, _, _, rfl, rfl, h⟩)))
  · intro n pc L st T hi hS hL P Y Wk hIc
    clear hE
    rcases hi with ⟨rfl, l1, l2, l3, rfl, rfl, hi⟩ | ⟨rfl, l1, l2, l3, l4, rfl, rfl, hi⟩
    · have h := h6 n l1 l2 l3 T hS (hL 1 _ rfl) (hL 2 _ rfl) (hL 3 _ rfl) hi
      clear hL hi h6 h23
      refine y_iload_n 6 Y dX6_inOrder_6 rfl ?_
      refine y_iload_n 7 Y dX6_inOrder_7 rfl ?_
      refine y_aload_n 8 Y dX6_inOrder_8 rfl ?_
      refine y_geta 9 Y 8 dX6_inOrder_9 rfl rfl ?_
      refine y_iload_n 12 Y dX6_inOrder_12 rfl ?_
      obtain ⟨o1, h⟩ := h
      obtain ⟨o2, h⟩ := h
      refine y_iald 13 Y dX6_inOrder_13 rfl rfl o1 o2 (fun _ => ?_)
      obtain ⟨o3, h⟩ := h
      refine y_iadd 14 Y dX6_inOrder_14 o3 ?_
      refine y_icmp 15 66 Y dX6_inOrder_15 rfl rfl (fun c => ?_) (fun c => ?_)
      · replace h := h.1 c
        refine y_iload_n 66 Y dX6_inOrder_66 rfl ?_
        exact y_iret 67 Y dX6_inOrder_67 rfl h
      · replace h := h.2 c
        refine y_iload_n 18 Y dX6_inOrder_18 rfl ?_
        refine y_iconst 19 Y dX6_inOrder_19 rfl ?_
        obtain ⟨o4, h⟩ := h
        refine y_isub 20 Y dX6_inOrder_20 o4 ?_
        refine y_istore 21 Y [some mt, some (mi l1), some (mi l2), some (mi l3), some (mi (l3 - 1))] dX6_inOrder_21 rfl rfl ?_
        obtain ⟨n1, hn, h⟩ := h
        exact Wk 23 _ [some mt, some (mi l1), some (mi l2), some (mi l3), some (mi (l3 - 1))] _ _ ⟨rfl, ⟨rfl, ⟨rfl, ⟨rfl, ⟨rfl, trivial⟩⟩⟩⟩⟩ (hIc n1 _ _ _ _ hn (Or.inr ((⟨rfl, _, _, _, _, rfl, rfl, h⟩))))
    · have h := h23 n l1 l2 l3 l4 T hS (hL 1 _ rfl) (hL 2 _ rfl) (hL 3 _ rfl) (hL 4 _ rfl) hi
      clear hL hi h6 h23
      refine y_iload 23 Y dX6_inOrder_23 rfl ?_
      refine y_iload_n 25 Y dX6_inOrder_25 rfl ?_
      refine y_icmp 26 60 Y dX6_inOrder_26 rfl rfl (fun c => ?_) (fun c => ?_)
      · replace h := h.1 c
        obtain ⟨o1, h⟩ := h
        refine y_iinc 60 Y [some mt, some (mi l1), some (mi l2), some (mi (l3 + 1)), some (mi l4)] dX6_inOrder_60 rfl rfl o1 ?_
        refine y_goto 63 6 Y dX6_inOrder_63 rfl rfl ?_
        obtain ⟨n1, hn, h⟩ := h
        exact Wk 6 _ [some mt, some (mi l1), some (mi l2), some (mi (l3 + 1)), none] _ _ ⟨rfl, ⟨rfl, ⟨rfl, ⟨rfl, trivial⟩⟩⟩⟩ (hIc n1 _ _ _ _ hn (Or.inl (⟨rfl, _, _, _, rfl, rfl, h⟩)))
      · replace h := h.2 c
        refine y_iload 29 Y dX6_inOrder_29 rfl ?_
        refine y_aload_n 31 Y dX6_inOrder_31 rfl ?_
        refine y_geta 32 Y 8 dX6_inOrder_32 rfl rfl ?_
        refine y_iload 35 Y dX6_inOrder_35 rfl ?_
        obtain ⟨o2, h⟩ := h
        obtain ⟨o3, h⟩ := h
        refine y_iald 37 Y dX6_inOrder_37 rfl rfl o2 o3 (fun _ => ?_)
        obtain ⟨o4, h⟩ := h
        refine y_iadd 38 Y dX6_inOrder_38 o4 ?_
        refine y_iload_n 39 Y dX6_inOrder_39 rfl ?_
        refine y_icmp 40 54 Y dX6_inOrder_40 rfl rfl (fun c => ?_) (fun c => ?_)
        · replace h := h.1 c
          obtain ⟨o5, h⟩ := h
          refine y_iinc 54 Y [some mt, some (mi l1), some (mi l2), some (mi l3), some (mi (l4 + (-1)))] dX6_inOrder_54 rfl rfl o5 ?_
          refine y_goto 57 23 Y dX6_inOrder_57 rfl rfl ?_
          obtain ⟨n1, hn, h⟩ := h
          exact Wk 23 _ [some mt, some (mi l1), some (mi l2), some (mi l3), some (mi (l4 + (-1)))] _ _ ⟨rfl, ⟨rfl, ⟨rfl, ⟨rfl, ⟨rfl, trivial⟩⟩⟩⟩⟩ (hIc n1 _ _ _ _ hn (Or.inr ((⟨rfl, _, _, _, _, rfl, rfl, h⟩))))
        · replace h := h.2 c
          refine y_aload_n 43 Y dX6_inOrder_43 rfl ?_
          refine y_geta 44 Y 14 dX6_inOrder_44 rfl rfl ?_
          refine y_iload_n 47 Y dX6_inOrder_47 rfl ?_
          refine y_iload 48 Y dX6_inOrder_48 rfl ?_
          obtain ⟨o6, h⟩ := h
          obtain ⟨o7, h⟩ := h
          refine y_iast 50 Y dX6_inOrder_50 rfl rfl o6 o7 ?_
          obtain ⟨o8, h⟩ := h
          refine y_iinc 51 Y [some mt, some (mi l1), some (mi (l2 + 1)), some (mi l3), some (mi l4)] dX6_inOrder_51 rfl rfl o8 ?_
          obtain ⟨o9, h⟩ := h
          refine y_iinc 54 Y [some mt, some (mi l1), some (mi (l2 + 1)), some (mi l3), some (mi (l4 + (-1)))] dX6_inOrder_54 rfl rfl o9 ?_
          refine y_goto 57 23 Y dX6_inOrder_57 rfl rfl ?_
          obtain ⟨n1, hn, h⟩ := h
          exact Wk 23 _ [some mt, some (mi l1), some (mi (l2 + 1)), some (mi l3), some (mi (l4 + (-1)))] _ _ ⟨rfl, ⟨rfl, ⟨rfl, ⟨rfl, ⟨rfl, trivial⟩⟩⟩⟩⟩ (hIc n1 _ _ _ _ hn (Or.inr ((⟨rfl, _, _, _, _, rfl, rfl, h⟩))))
set_option maxHeartbeats 4000000 in
theorem of_isBit {g : mG} {S : mS} {a1 a2 : Int} {Qp : Option mV → mS → Prop}
    (hE : mI S → (-2147483648 ≤ a1 ∧ a1 ≤ 2147483647) → (-2147483648 ≤ a2 ∧ a2 ≤ 2147483647) → (0 ≤ a1) ∧ (a1 < 16) ∧ (((S 2 a1) ≤ (a2 / 16)) → Qp (some (mi 0)) S) ∧ (¬ ((S 2 a1) ≤ (a2 / 16)) → (-2147483648 ≤ ((440 * a1) : Int) ∧ (440 * a1) ≤ 2147483647) ∧ (-2147483648 ≤ (((440 * a1) + (a2 / 16)) : Int) ∧ ((440 * a1) + (a2 / 16)) ≤ 2147483647) ∧ (0 ≤ ((440 * a1) + (a2 / 16))) ∧ (((440 * a1) + (a2 / 16)) < 7040) ∧ (0 ≤ (a2 % 16)) ∧ ((a2 % 16) < 32) ∧ (((((S 1 ((440 * a1) + (a2 / 16))) / (2 ^ Int.toNat (a2 % 16))) % 2) ≠ 1) → Qp (some (mi 0)) S) ∧ (¬ ((((S 1 ((440 * a1) + (a2 / 16))) / (2 ^ Int.toNat (a2 % 16))) % 2) ≠ 1) → Qp (some (mi 1)) S)))
    : CX_isBit g [mt, mi a1, mi a2] S Qp := by
  refine cm_y ⟨by decide, rfl⟩ (by simp [mcat]) (by simp) (fun _ _ _ _ _ => False) ?_ ?_
  · intro ha hS P Y Wk hIc
    have h := hE hS (mokI (ha (mi a1) (by simp))) (mokI (ha (mi a2) (by simp)))
    clear hE ha
    refine y_iload_n 0 Y dX6_isBit_0 rfl ?_
    refine y_iconst 1 Y dX6_isBit_1 rfl ?_
    refine y_ishr 2 Y 16 rfl dX6_isBit_2 (by decide) (by decide) ?_
    refine y_aload_n 3 Y dX6_isBit_3 rfl ?_
    refine y_geta 4 Y 2 dX6_isBit_4 rfl rfl ?_
    refine y_iload_n 7 Y dX6_isBit_7 rfl ?_
    obtain ⟨o1, h⟩ := h
    obtain ⟨o2, h⟩ := h
    refine y_iald 8 Y dX6_isBit_8 rfl rfl o1 o2 (fun _ => ?_)
    refine y_icmp 9 41 Y dX6_isBit_9 rfl rfl (fun c => ?_) (fun c => ?_)
    · replace h := h.1 c
      refine y_iconst 41 Y dX6_isBit_41 rfl ?_
      exact y_zret 42 Y dX6_isBit_42 rfl (by decide) h
    · replace h := h.2 c
      refine y_aload_n 12 Y dX6_isBit_12 rfl ?_
      refine y_geta 13 Y 1 dX6_isBit_13 rfl rfl ?_
      refine y_sipush 16 Y dX6_isBit_16 rfl ?_
      refine y_iload_n 19 Y dX6_isBit_19 rfl ?_
      obtain ⟨o3, h⟩ := h
      refine y_imul 20 Y dX6_isBit_20 o3 ?_
      refine y_iload_n 21 Y dX6_isBit_21 rfl ?_
      refine y_iconst 22 Y dX6_isBit_22 rfl ?_
      refine y_ishr 23 Y 16 rfl dX6_isBit_23 (by decide) (by decide) ?_
      obtain ⟨o4, h⟩ := h
      refine y_iadd 24 Y dX6_isBit_24 o4 ?_
      obtain ⟨o5, h⟩ := h
      obtain ⟨o6, h⟩ := h
      refine y_iald 25 Y dX6_isBit_25 rfl rfl o5 o6 (fun _ => ?_)
      refine y_iload_n 26 Y dX6_isBit_26 rfl ?_
      refine y_bipush 27 Y dX6_isBit_27 rfl ?_
      refine y_iand 29 Y dX6_isBit_29 mm_15 ?_
      obtain ⟨o7, h⟩ := h
      obtain ⟨o8, h⟩ := h
      refine y_ishr 30 Y (2 ^ Int.toNat (a2 % 16)) rfl dX6_isBit_30 o7 o8 ?_
      refine y_iconst 31 Y dX6_isBit_31 rfl ?_
      refine y_iand 32 Y dX6_isBit_32 mm_1 ?_
      refine y_iconst 33 Y dX6_isBit_33 rfl ?_
      refine y_icmp 34 41 Y dX6_isBit_34 rfl rfl (fun c => ?_) (fun c => ?_)
      · replace h := h.1 c
        refine y_iconst 41 Y dX6_isBit_41 rfl ?_
        exact y_zret 42 Y dX6_isBit_42 rfl (by decide) h
      · replace h := h.2 c
        refine y_iconst 37 Y dX6_isBit_37 rfl ?_
        refine y_goto 38 42 Y dX6_isBit_38 rfl rfl ?_
        exact y_zret 42 Y dX6_isBit_42 rfl (by decide) h
  · intro n pc L st T hi
    exact hi.elim
set_option maxHeartbeats 4000000 in
theorem of_isNumber {g : mG} {S : mS} {a1 a2 : Int} {Qp : Option mV → mS → Prop}
    (hE : mI S → (-2147483648 ≤ a1 ∧ a1 ≤ 2147483647) → (-2147483648 ≤ a2 ∧ a2 ≤ 2147483647) → (0 ≤ a1) ∧ (a1 < 20300) ∧ (((S 4 a1) ≠ 0) → Qp (some (mi 0)) S) ∧ (¬ ((S 4 a1) ≠ 0) → (((S 5 a1) ≠ a2) → Qp (some (mi 0)) S) ∧ (¬ ((S 5 a1) ≠ a2) → Qp (some (mi 1)) S)))
    : CX_isNumber g [mt, mi a1, mi a2] S Qp := by
  refine cm_y ⟨by decide, rfl⟩ (by simp [mcat]) (by simp) (fun _ _ _ _ _ => False) ?_ ?_
  · intro ha hS P Y Wk hIc
    have h := hE hS (mokI (ha (mi a1) (by simp))) (mokI (ha (mi a2) (by simp)))
    clear hE ha
    refine y_aload_n 0 Y dX6_isNumber_0 rfl ?_
    refine y_geta 1 Y 4 dX6_isNumber_1 rfl rfl ?_
    refine y_iload_n 4 Y dX6_isNumber_4 rfl ?_
    obtain ⟨o1, h⟩ := h
    obtain ⟨o2, h⟩ := h
    refine y_iald 5 Y dX6_isNumber_5 rfl rfl o1 o2 (fun _ => ?_)
    refine y_if 6 23 Y dX6_isNumber_6 rfl rfl (fun c => ?_) (fun c => ?_)
    · replace h := h.1 c
      refine y_iconst 23 Y dX6_isNumber_23 rfl ?_
      exact y_zret 24 Y dX6_isNumber_24 rfl (by decide) h
    · replace h := h.2 c
      refine y_aload_n 9 Y dX6_isNumber_9 rfl ?_
      refine y_geta 10 Y 5 dX6_isNumber_10 rfl rfl ?_
      refine y_iload_n 13 Y dX6_isNumber_13 rfl ?_
      refine y_iald 14 Y dX6_isNumber_14 rfl rfl o1 o2 (fun _ => ?_)
      refine y_iload_n 15 Y dX6_isNumber_15 rfl ?_
      refine y_icmp 16 23 Y dX6_isNumber_16 rfl rfl (fun c => ?_) (fun c => ?_)
      · replace h := h.1 c
        refine y_iconst 23 Y dX6_isNumber_23 rfl ?_
        exact y_zret 24 Y dX6_isNumber_24 rfl (by decide) h
      · replace h := h.2 c
        refine y_iconst 19 Y dX6_isNumber_19 rfl ?_
        refine y_goto 20 24 Y dX6_isNumber_20 rfl rfl ?_
        exact y_zret 24 Y dX6_isNumber_24 rfl (by decide) h
  · intro n pc L st T hi
    exact hi.elim
set_option maxHeartbeats 4000000 in
theorem of_isOther {g : mG} {S : mS} {a1 a2 a3 : Int} {Qp : Option mV → mS → Prop} (I6 : Nat → Int → Int → Int → Int → Int → mS → Prop)
    (hE : mI S → (-2147483648 ≤ a1 ∧ a1 ≤ 2147483647) → (-2147483648 ≤ a2 ∧ a2 ≤ 2147483647) → (-2147483648 ≤ a3 ∧ a3 ≤ 2147483647) → (∃ n1, I6 n1 a1 a2 a3 0 0 S))
    (h6 : ∀ (n : Nat) (l1 l2 l3 l4 l5 : Int) (T : mS), mI T → (-2147483648 ≤ l1 ∧ l1 ≤ 2147483647) → (-2147483648 ≤ l2 ∧ l2 ≤ 2147483647) → (-2147483648 ≤ l3 ∧ l3 ≤ 2147483647) → (-2147483648 ≤ l4 ∧ l4 ≤ 2147483647) → (-2147483648 ≤ l5 ∧ l5 ≤ 2147483647) → I6 n l1 l2 l3 l4 l5 T → ((16 ≤ l5) → (l4 = 0 ∨ l4 = 1) ∧ Qp (some (mi l4)) T) ∧ (¬ (16 ≤ l5) → ((l4 ≠ 0) → (-2147483648 ≤ ((l5 + 1) : Int) ∧ (l5 + 1) ≤ 2147483647) ∧ (∃ n1, n1 < n ∧ I6 n1 l1 l2 l3 1 (l5 + 1) T)) ∧ (¬ (l4 ≠ 0) → ((l5 = l1) → (-2147483648 ≤ ((l5 + 1) : Int) ∧ (l5 + 1) ≤ 2147483647) ∧ (∃ n1, n1 < n ∧ I6 n1 l1 l2 l3 0 (l5 + 1) T)) ∧ (¬ (l5 = l1) → (-2147483648 ≤ ((3 * l5) : Int) ∧ (3 * l5) ≤ 2147483647) ∧ (-2147483648 ≤ (((3 * l5) + 2) : Int) ∧ ((3 * l5) + 2) ≤ 2147483647) ∧ (0 ≤ ((3 * l5) + 2)) ∧ (((3 * l5) + 2) < 48) ∧ (((T 15 ((3 * l5) + 2)) ≠ l2) → (-2147483648 ≤ ((l5 + 1) : Int) ∧ (l5 + 1) ≤ 2147483647) ∧ (∃ n1, n1 < n ∧ I6 n1 l1 l2 l3 0 (l5 + 1) T)) ∧ (¬ ((T 15 ((3 * l5) + 2)) ≠ l2) → (((T 16 ((3 * l5) + 2)) = l3) → (-2147483648 ≤ ((l5 + 1) : Int) ∧ (l5 + 1) ≤ 2147483647) ∧ (∃ n1, n1 < n ∧ I6 n1 l1 l2 l3 0 (l5 + 1) T)) ∧ (¬ ((T 16 ((3 * l5) + 2)) = l3) → (-2147483648 ≤ ((l5 + 1) : Int) ∧ (l5 + 1) ≤ 2147483647) ∧ (∃ n1, n1 < n ∧ I6 n1 l1 l2 l3 1 (l5 + 1) T)))))))
    : CX_isOther g [mt, mi a1, mi a2, mi a3] S Qp := by
  refine cm_y ⟨by decide, rfl⟩ (by simp [mcat]) (by simp) (fun n pc L st S => (pc = 6 ∧ ∃ (l1 : Int) (l2 : Int) (l3 : Int) (l4 : Int) (l5 : Int), L = [some mt, some (mi l1), some (mi l2), some (mi l3), some (mi l4), some (mi l5)] ∧ st = [] ∧ I6 n l1 l2 l3 l4 l5 S)) ?_ ?_
  · intro ha hS P Y Wk hIc
    have h := hE hS (mokI (ha (mi a1) (by simp))) (mokI (ha (mi a2) (by simp))) (mokI (ha (mi a3) (by simp)))
    clear hE ha h6
    refine y_iconst 0 Y dX6_isOther_0 rfl ?_
    refine y_istore 1 Y [some mt, some (mi a1), some (mi a2), some (mi a3), some (mi 0), none] dX6_isOther_1 rfl rfl ?_
    refine y_iconst 3 Y dX6_isOther_3 rfl ?_
    refine y_istore 4 Y [some mt, some (mi a1), some (mi a2), some (mi a3), some (mi 0), some (mi 0)] dX6_isOther_4 rfl rfl ?_
    obtain ⟨n1, h⟩ := h
    exact Wk 6 _ [some mt, some (mi a1), some (mi a2), some (mi a3), some (mi 0), some (mi 0)] _ _ ⟨rfl, ⟨rfl, ⟨rfl, ⟨rfl, ⟨rfl, ⟨rfl, trivial⟩⟩⟩⟩⟩⟩ (hIc n1 _ _ _ _ ((⟨rfl, _, _, _, _, _, rfl, rfl, h⟩)))
  · intro n pc L st T hi hS hL P Y Wk hIc
    clear hE
    rcases hi with ⟨rfl, l1, l2, l3, l4, l5, rfl, rfl, hi⟩
    · have h := h6 n l1 l2 l3 l4 l5 T hS (hL 1 _ rfl) (hL 2 _ rfl) (hL 3 _ rfl) (hL 4 _ rfl) (hL 5 _ rfl) hi
      clear hL hi h6
      refine y_iload 6 Y dX6_isOther_6 rfl ?_
      refine y_bipush 8 Y dX6_isOther_8 rfl ?_
      refine y_icmp 10 67 Y dX6_isOther_10 rfl rfl (fun c => ?_) (fun c => ?_)
      · replace h := h.1 c
        refine y_iload 67 Y dX6_isOther_67 rfl ?_
        exact y_zret 69 Y dX6_isOther_69 rfl h.1 h.2
      · replace h := h.2 c
        refine y_iload 13 Y dX6_isOther_13 rfl ?_
        refine y_if 15 54 Y dX6_isOther_15 rfl rfl (fun c => ?_) (fun c => ?_)
        · replace h := h.1 c
          refine y_iconst 54 Y dX6_isOther_54 rfl ?_
          refine y_goto 55 59 Y dX6_isOther_55 rfl rfl ?_
          refine y_istore 59 Y [some mt, some (mi l1), some (mi l2), some (mi l3), some (mi 1), some (mi l5)] dX6_isOther_59 rfl rfl ?_
          obtain ⟨o1, h⟩ := h
          refine y_iinc 61 Y [some mt, some (mi l1), some (mi l2), some (mi l3), some (mi 1), some (mi (l5 + 1))] dX6_isOther_61 rfl rfl o1 ?_
          refine y_goto 64 6 Y dX6_isOther_64 rfl rfl ?_
          obtain ⟨n1, hn, h⟩ := h
          exact Wk 6 _ [some mt, some (mi l1), some (mi l2), some (mi l3), some (mi 1), some (mi (l5 + 1))] _ _ ⟨rfl, ⟨rfl, ⟨rfl, ⟨rfl, ⟨rfl, ⟨rfl, trivial⟩⟩⟩⟩⟩⟩ (hIc n1 _ _ _ _ hn ((⟨rfl, _, _, _, _, _, rfl, rfl, h⟩)))
        · replace h := h.2 c
          refine y_iload 18 Y dX6_isOther_18 rfl ?_
          refine y_iload_n 20 Y dX6_isOther_20 rfl ?_
          refine y_icmp 21 58 Y dX6_isOther_21 rfl rfl (fun c => ?_) (fun c => ?_)
          · replace h := h.1 c
            refine y_iconst 58 Y dX6_isOther_58 rfl ?_
            refine y_istore 59 Y [some mt, some (mi l1), some (mi l2), some (mi l3), some (mi 0), some (mi l5)] dX6_isOther_59 rfl rfl ?_
            obtain ⟨o2, h⟩ := h
            refine y_iinc 61 Y [some mt, some (mi l1), some (mi l2), some (mi l3), some (mi 0), some (mi (l5 + 1))] dX6_isOther_61 rfl rfl o2 ?_
            refine y_goto 64 6 Y dX6_isOther_64 rfl rfl ?_
            obtain ⟨n1, hn, h⟩ := h
            exact Wk 6 _ [some mt, some (mi l1), some (mi l2), some (mi l3), some (mi 0), some (mi (l5 + 1))] _ _ ⟨rfl, ⟨rfl, ⟨rfl, ⟨rfl, ⟨rfl, ⟨rfl, trivial⟩⟩⟩⟩⟩⟩ (hIc n1 _ _ _ _ hn ((⟨rfl, _, _, _, _, _, rfl, rfl, h⟩)))
          · replace h := h.2 c
            refine y_aload_n 24 Y dX6_isOther_24 rfl ?_
            refine y_geta 25 Y 15 dX6_isOther_25 rfl rfl ?_
            refine y_iconst 28 Y dX6_isOther_28 rfl ?_
            refine y_iload 29 Y dX6_isOther_29 rfl ?_
            obtain ⟨o3, h⟩ := h
            refine y_imul 31 Y dX6_isOther_31 o3 ?_
            refine y_iconst 32 Y dX6_isOther_32 rfl ?_
            obtain ⟨o4, h⟩ := h
            refine y_iadd 33 Y dX6_isOther_33 o4 ?_
            obtain ⟨o5, h⟩ := h
            obtain ⟨o6, h⟩ := h
            refine y_iald 34 Y dX6_isOther_34 rfl rfl o5 o6 (fun _ => ?_)
            refine y_iload_n 35 Y dX6_isOther_35 rfl ?_
            refine y_icmp 36 58 Y dX6_isOther_36 rfl rfl (fun c => ?_) (fun c => ?_)
            · replace h := h.1 c
              refine y_iconst 58 Y dX6_isOther_58 rfl ?_
              refine y_istore 59 Y [some mt, some (mi l1), some (mi l2), some (mi l3), some (mi 0), some (mi l5)] dX6_isOther_59 rfl rfl ?_
              obtain ⟨o7, h⟩ := h
              refine y_iinc 61 Y [some mt, some (mi l1), some (mi l2), some (mi l3), some (mi 0), some (mi (l5 + 1))] dX6_isOther_61 rfl rfl o7 ?_
              refine y_goto 64 6 Y dX6_isOther_64 rfl rfl ?_
              obtain ⟨n1, hn, h⟩ := h
              exact Wk 6 _ [some mt, some (mi l1), some (mi l2), some (mi l3), some (mi 0), some (mi (l5 + 1))] _ _ ⟨rfl, ⟨rfl, ⟨rfl, ⟨rfl, ⟨rfl, ⟨rfl, trivial⟩⟩⟩⟩⟩⟩ (hIc n1 _ _ _ _ hn ((⟨rfl, _, _, _, _, _, rfl, rfl, h⟩)))
            · replace h := h.2 c
              refine y_aload_n 39 Y dX6_isOther_39 rfl ?_
              refine y_geta 40 Y 16 dX6_isOther_40 rfl rfl ?_
              refine y_iconst 43 Y dX6_isOther_43 rfl ?_
              refine y_iload 44 Y dX6_isOther_44 rfl ?_
              refine y_imul 46 Y dX6_isOther_46 o3 ?_
              refine y_iconst 47 Y dX6_isOther_47 rfl ?_
              refine y_iadd 48 Y dX6_isOther_48 o4 ?_
              refine y_iald 49 Y dX6_isOther_49 rfl rfl o5 o6 (fun _ => ?_)
              refine y_iload_n 50 Y dX6_isOther_50 rfl ?_
              refine y_icmp 51 58 Y dX6_isOther_51 rfl rfl (fun c => ?_) (fun c => ?_)
              · replace h := h.1 c
                refine y_iconst 58 Y dX6_isOther_58 rfl ?_
                refine y_istore 59 Y [some mt, some (mi l1), some (mi l2), some (mi l3), some (mi 0), some (mi l5)] dX6_isOther_59 rfl rfl ?_
                obtain ⟨o8, h⟩ := h
                refine y_iinc 61 Y [some mt, some (mi l1), some (mi l2), some (mi l3), some (mi 0), some (mi (l5 + 1))] dX6_isOther_61 rfl rfl o8 ?_
                refine y_goto 64 6 Y dX6_isOther_64 rfl rfl ?_
                obtain ⟨n1, hn, h⟩ := h
                exact Wk 6 _ [some mt, some (mi l1), some (mi l2), some (mi l3), some (mi 0), some (mi (l5 + 1))] _ _ ⟨rfl, ⟨rfl, ⟨rfl, ⟨rfl, ⟨rfl, ⟨rfl, trivial⟩⟩⟩⟩⟩⟩ (hIc n1 _ _ _ _ hn ((⟨rfl, _, _, _, _, _, rfl, rfl, h⟩)))
              · replace h := h.2 c
                refine y_iconst 54 Y dX6_isOther_54 rfl ?_
                refine y_goto 55 59 Y dX6_isOther_55 rfl rfl ?_
                refine y_istore 59 Y [some mt, some (mi l1), some (mi l2), some (mi l3), some (mi 1), some (mi l5)] dX6_isOther_59 rfl rfl ?_
                obtain ⟨o9, h⟩ := h
                refine y_iinc 61 Y [some mt, some (mi l1), some (mi l2), some (mi l3), some (mi 1), some (mi (l5 + 1))] dX6_isOther_61 rfl rfl o9 ?_
                refine y_goto 64 6 Y dX6_isOther_64 rfl rfl ?_
                obtain ⟨n1, hn, h⟩ := h
                exact Wk 6 _ [some mt, some (mi l1), some (mi l2), some (mi l3), some (mi 1), some (mi (l5 + 1))] _ _ ⟨rfl, ⟨rfl, ⟨rfl, ⟨rfl, ⟨rfl, ⟨rfl, trivial⟩⟩⟩⟩⟩⟩ (hIc n1 _ _ _ _ hn ((⟨rfl, _, _, _, _, _, rfl, rfl, h⟩)))
set_option maxHeartbeats 4000000 in
theorem of_isRange {g : mG} {S : mS} {a1 a2 : Int} {Qp : Option mV → mS → Prop}
    (hE : mI S → (-2147483648 ≤ a1 ∧ a1 ≤ 2147483647) → (-2147483648 ≤ a2 ∧ a2 ≤ 2147483647) → ((a2 ≤ a1) → Qp (some (mi 0)) S) ∧ (¬ (a2 ≤ a1) → (-2147483648 ≤ ((a2 - 1) : Int) ∧ (a2 - 1) ≤ 2147483647) ∧ (0 ≤ (a2 - 1)) ∧ ((a2 - 1) < 20300) ∧ (((S 4 (a2 - 1)) ≠ 2) → Qp (some (mi 0)) S) ∧ (¬ ((S 4 (a2 - 1)) ≠ 2) → (((S 5 (a2 - 1)) ≠ 115) → Qp (some (mi 0)) S) ∧ (¬ ((S 5 (a2 - 1)) ≠ 115) → (((S 7 (a2 - 1)) ≤ 0) → Qp (some (mi 0)) S) ∧ (¬ ((S 7 (a2 - 1)) ≤ 0) → Qp (some (mi 1)) S)))))
    : CX_isRange g [mt, mi a1, mi a2] S Qp := by
  refine cm_y ⟨by decide, rfl⟩ (by simp [mcat]) (by simp) (fun _ _ _ _ _ => False) ?_ ?_
  · intro ha hS P Y Wk hIc
    have h := hE hS (mokI (ha (mi a1) (by simp))) (mokI (ha (mi a2) (by simp)))
    clear hE ha
    refine y_iload_n 0 Y dX6_isRange_0 rfl ?_
    refine y_iload_n 1 Y dX6_isRange_1 rfl ?_
    refine y_icmp 2 45 Y dX6_isRange_2 rfl rfl (fun c => ?_) (fun c => ?_)
    · replace h := h.1 c
      refine y_iconst 45 Y dX6_isRange_45 rfl ?_
      exact y_zret 46 Y dX6_isRange_46 rfl (by decide) h
    · replace h := h.2 c
      refine y_aload_n 5 Y dX6_isRange_5 rfl ?_
      refine y_geta 6 Y 4 dX6_isRange_6 rfl rfl ?_
      refine y_iload_n 9 Y dX6_isRange_9 rfl ?_
      refine y_iconst 10 Y dX6_isRange_10 rfl ?_
      obtain ⟨o1, h⟩ := h
      refine y_isub 11 Y dX6_isRange_11 o1 ?_
      obtain ⟨o2, h⟩ := h
      obtain ⟨o3, h⟩ := h
      refine y_iald 12 Y dX6_isRange_12 rfl rfl o2 o3 (fun _ => ?_)
      refine y_iconst 13 Y dX6_isRange_13 rfl ?_
      refine y_icmp 14 45 Y dX6_isRange_14 rfl rfl (fun c => ?_) (fun c => ?_)
      · replace h := h.1 c
        refine y_iconst 45 Y dX6_isRange_45 rfl ?_
        exact y_zret 46 Y dX6_isRange_46 rfl (by decide) h
      · replace h := h.2 c
        refine y_aload_n 17 Y dX6_isRange_17 rfl ?_
        refine y_geta 18 Y 5 dX6_isRange_18 rfl rfl ?_
        refine y_iload_n 21 Y dX6_isRange_21 rfl ?_
        refine y_iconst 22 Y dX6_isRange_22 rfl ?_
        refine y_isub 23 Y dX6_isRange_23 o1 ?_
        refine y_iald 24 Y dX6_isRange_24 rfl rfl o2 o3 (fun _ => ?_)
        refine y_bipush 25 Y dX6_isRange_25 rfl ?_
        refine y_icmp 27 45 Y dX6_isRange_27 rfl rfl (fun c => ?_) (fun c => ?_)
        · replace h := h.1 c
          refine y_iconst 45 Y dX6_isRange_45 rfl ?_
          exact y_zret 46 Y dX6_isRange_46 rfl (by decide) h
        · replace h := h.2 c
          refine y_aload_n 30 Y dX6_isRange_30 rfl ?_
          refine y_geta 31 Y 7 dX6_isRange_31 rfl rfl ?_
          refine y_iload_n 34 Y dX6_isRange_34 rfl ?_
          refine y_iconst 35 Y dX6_isRange_35 rfl ?_
          refine y_isub 36 Y dX6_isRange_36 o1 ?_
          refine y_iald 37 Y dX6_isRange_37 rfl rfl o2 o3 (fun _ => ?_)
          refine y_if 38 45 Y dX6_isRange_38 rfl rfl (fun c => ?_) (fun c => ?_)
          · replace h := h.1 c
            refine y_iconst 45 Y dX6_isRange_45 rfl ?_
            exact y_zret 46 Y dX6_isRange_46 rfl (by decide) h
          · replace h := h.2 c
            refine y_iconst 41 Y dX6_isRange_41 rfl ?_
            refine y_goto 42 46 Y dX6_isRange_42 rfl rfl ?_
            exact y_zret 46 Y dX6_isRange_46 rfl (by decide) h
  · intro n pc L st T hi
    exact hi.elim
set_option maxHeartbeats 4000000 in
theorem of_isWhole {g : mG} {S : mS} {a1 : Int} {Qp : Option mV → mS → Prop} (I26 : Nat → Int → Int → Int → mS → Prop)
    (hE : mI S → (-2147483648 ≤ a1 ∧ a1 ≤ 2147483647) → (-2147483648 ≤ ((28 * a1) : Int) ∧ (28 * a1) ≤ 2147483647) ∧ (-2147483648 ≤ (((28 * a1) + 1) : Int) ∧ ((28 * a1) + 1) ≤ 2147483647) ∧ (-2147483648 ≤ ((((28 * a1) + 1) + 13) : Int) ∧ (((28 * a1) + 1) + 13) ≤ 2147483647) ∧ (0 ≤ (((28 * a1) + 1) + 13)) ∧ ((((28 * a1) + 1) + 13) < 104160) ∧ (((S 3 (((28 * a1) + 1) + 13)) ≠ 1) → (∃ n1, I26 n1 a1 0 1 S)) ∧ (¬ ((S 3 (((28 * a1) + 1) + 13)) ≠ 1) → (∃ n1, I26 n1 a1 1 1 S)))
    (h26 : ∀ (n : Nat) (l1 l2 l3 : Int) (T : mS), mI T → (-2147483648 ≤ l1 ∧ l1 ≤ 2147483647) → (-2147483648 ≤ l2 ∧ l2 ≤ 2147483647) → (-2147483648 ≤ l3 ∧ l3 ≤ 2147483647) → I26 n l1 l2 l3 T → ((13 ≤ l3) → (l2 = 0 ∨ l2 = 1) ∧ Qp (some (mi l2)) T) ∧ (¬ (13 ≤ l3) → ((l2 = 0) → (l2 = 0 ∨ l2 = 1) ∧ Qp (some (mi l2)) T) ∧ (¬ (l2 = 0) → (-2147483648 ≤ ((28 * l1) : Int) ∧ (28 * l1) ≤ 2147483647) ∧ (-2147483648 ≤ (((28 * l1) + 1) : Int) ∧ ((28 * l1) + 1) ≤ 2147483647) ∧ (-2147483648 ≤ ((((28 * l1) + 1) + 13) : Int) ∧ (((28 * l1) + 1) + 13) ≤ 2147483647) ∧ (-2147483648 ≤ (((((28 * l1) + 1) + 13) + l3) : Int) ∧ ((((28 * l1) + 1) + 13) + l3) ≤ 2147483647) ∧ (0 ≤ ((((28 * l1) + 1) + 13) + l3)) ∧ (((((28 * l1) + 1) + 13) + l3) < 104160) ∧ (((T 3 ((((28 * l1) + 1) + 13) + l3)) ≠ 0) → (-2147483648 ≤ ((l3 + 1) : Int) ∧ (l3 + 1) ≤ 2147483647) ∧ (∃ n1, n1 < n ∧ I26 n1 l1 0 (l3 + 1) T)) ∧ (¬ ((T 3 ((((28 * l1) + 1) + 13) + l3)) ≠ 0) → (-2147483648 ≤ ((l3 + 1) : Int) ∧ (l3 + 1) ≤ 2147483647) ∧ (∃ n1, n1 < n ∧ I26 n1 l1 1 (l3 + 1) T)))))
    : CX_isWhole g [mt, mi a1] S Qp := by
  refine cm_y ⟨by decide, rfl⟩ (by simp [mcat]) (by simp) (fun n pc L st S => (pc = 26 ∧ ∃ (l1 : Int) (l2 : Int) (l3 : Int), L = [some mt, some (mi l1), some (mi l2), some (mi l3)] ∧ st = [] ∧ I26 n l1 l2 l3 S)) ?_ ?_
  · intro ha hS P Y Wk hIc
    have h := hE hS (mokI (ha (mi a1) (by simp)))
    clear hE ha h26
    refine y_aload_n 0 Y dX6_isWhole_0 rfl ?_
    refine y_geta 1 Y 3 dX6_isWhole_1 rfl rfl ?_
    refine y_bipush 4 Y dX6_isWhole_4 rfl ?_
    refine y_iload_n 6 Y dX6_isWhole_6 rfl ?_
    obtain ⟨o1, h⟩ := h
    refine y_imul 7 Y dX6_isWhole_7 o1 ?_
    refine y_iconst 8 Y dX6_isWhole_8 rfl ?_
    obtain ⟨o2, h⟩ := h
    refine y_iadd 9 Y dX6_isWhole_9 o2 ?_
    refine y_bipush 10 Y dX6_isWhole_10 rfl ?_
    obtain ⟨o3, h⟩ := h
    refine y_iadd 12 Y dX6_isWhole_12 o3 ?_
    obtain ⟨o4, h⟩ := h
    obtain ⟨o5, h⟩ := h
    refine y_iald 13 Y dX6_isWhole_13 rfl rfl o4 o5 (fun _ => ?_)
    refine y_iconst 14 Y dX6_isWhole_14 rfl ?_
    refine y_icmp 15 22 Y dX6_isWhole_15 rfl rfl (fun c => ?_) (fun c => ?_)
    · replace h := h.1 c
      refine y_iconst 22 Y dX6_isWhole_22 rfl ?_
      refine y_istore_n 23 Y [some mt, some (mi a1), some (mi 0), none] dX6_isWhole_23 rfl rfl ?_
      refine y_iconst 24 Y dX6_isWhole_24 rfl ?_
      refine y_istore_n 25 Y [some mt, some (mi a1), some (mi 0), some (mi 1)] dX6_isWhole_25 rfl rfl ?_
      obtain ⟨n1, h⟩ := h
      exact Wk 26 _ [some mt, some (mi a1), some (mi 0), some (mi 1)] _ _ ⟨rfl, ⟨rfl, ⟨rfl, ⟨rfl, trivial⟩⟩⟩⟩ (hIc n1 _ _ _ _ ((⟨rfl, _, _, _, rfl, rfl, h⟩)))
    · replace h := h.2 c
      refine y_iconst 18 Y dX6_isWhole_18 rfl ?_
      refine y_goto 19 23 Y dX6_isWhole_19 rfl rfl ?_
      refine y_istore_n 23 Y [some mt, some (mi a1), some (mi 1), none] dX6_isWhole_23 rfl rfl ?_
      refine y_iconst 24 Y dX6_isWhole_24 rfl ?_
      refine y_istore_n 25 Y [some mt, some (mi a1), some (mi 1), some (mi 1)] dX6_isWhole_25 rfl rfl ?_
      obtain ⟨n1, h⟩ := h
      exact Wk 26 _ [some mt, some (mi a1), some (mi 1), some (mi 1)] _ _ ⟨rfl, ⟨rfl, ⟨rfl, ⟨rfl, trivial⟩⟩⟩⟩ (hIc n1 _ _ _ _ ((⟨rfl, _, _, _, rfl, rfl, h⟩)))
  · intro n pc L st T hi hS hL P Y Wk hIc
    clear hE
    rcases hi with ⟨rfl, l1, l2, l3, rfl, rfl, hi⟩
    · have h := h26 n l1 l2 l3 T hS (hL 1 _ rfl) (hL 2 _ rfl) (hL 3 _ rfl) hi
      clear hL hi h26
      refine y_iload_n 26 Y dX6_isWhole_26 rfl ?_
      refine y_bipush 27 Y dX6_isWhole_27 rfl ?_
      refine y_icmp 29 67 Y dX6_isWhole_29 rfl rfl (fun c => ?_) (fun c => ?_)
      · replace h := h.1 c
        refine y_iload_n 67 Y dX6_isWhole_67 rfl ?_
        exact y_zret 68 Y dX6_isWhole_68 rfl h.1 h.2
      · replace h := h.2 c
        refine y_iload_n 32 Y dX6_isWhole_32 rfl ?_
        refine y_if 33 67 Y dX6_isWhole_33 rfl rfl (fun c => ?_) (fun c => ?_)
        · replace h := h.1 c
          refine y_iload_n 67 Y dX6_isWhole_67 rfl ?_
          exact y_zret 68 Y dX6_isWhole_68 rfl h.1 h.2
        · replace h := h.2 c
          refine y_aload_n 36 Y dX6_isWhole_36 rfl ?_
          refine y_geta 37 Y 3 dX6_isWhole_37 rfl rfl ?_
          refine y_bipush 40 Y dX6_isWhole_40 rfl ?_
          refine y_iload_n 42 Y dX6_isWhole_42 rfl ?_
          obtain ⟨o1, h⟩ := h
          refine y_imul 43 Y dX6_isWhole_43 o1 ?_
          refine y_iconst 44 Y dX6_isWhole_44 rfl ?_
          obtain ⟨o2, h⟩ := h
          refine y_iadd 45 Y dX6_isWhole_45 o2 ?_
          refine y_bipush 46 Y dX6_isWhole_46 rfl ?_
          obtain ⟨o3, h⟩ := h
          refine y_iadd 48 Y dX6_isWhole_48 o3 ?_
          refine y_iload_n 49 Y dX6_isWhole_49 rfl ?_
          obtain ⟨o4, h⟩ := h
          refine y_iadd 50 Y dX6_isWhole_50 o4 ?_
          obtain ⟨o5, h⟩ := h
          obtain ⟨o6, h⟩ := h
          refine y_iald 51 Y dX6_isWhole_51 rfl rfl o5 o6 (fun _ => ?_)
          refine y_if 52 59 Y dX6_isWhole_52 rfl rfl (fun c => ?_) (fun c => ?_)
          · replace h := h.1 c
            refine y_iconst 59 Y dX6_isWhole_59 rfl ?_
            refine y_istore_n 60 Y [some mt, some (mi l1), some (mi 0), some (mi l3)] dX6_isWhole_60 rfl rfl ?_
            obtain ⟨o7, h⟩ := h
            refine y_iinc 61 Y [some mt, some (mi l1), some (mi 0), some (mi (l3 + 1))] dX6_isWhole_61 rfl rfl o7 ?_
            refine y_goto 64 26 Y dX6_isWhole_64 rfl rfl ?_
            obtain ⟨n1, hn, h⟩ := h
            exact Wk 26 _ [some mt, some (mi l1), some (mi 0), some (mi (l3 + 1))] _ _ ⟨rfl, ⟨rfl, ⟨rfl, ⟨rfl, trivial⟩⟩⟩⟩ (hIc n1 _ _ _ _ hn ((⟨rfl, _, _, _, rfl, rfl, h⟩)))
          · replace h := h.2 c
            refine y_iconst 55 Y dX6_isWhole_55 rfl ?_
            refine y_goto 56 60 Y dX6_isWhole_56 rfl rfl ?_
            refine y_istore_n 60 Y [some mt, some (mi l1), some (mi 1), some (mi l3)] dX6_isWhole_60 rfl rfl ?_
            obtain ⟨o8, h⟩ := h
            refine y_iinc 61 Y [some mt, some (mi l1), some (mi 1), some (mi (l3 + 1))] dX6_isWhole_61 rfl rfl o8 ?_
            refine y_goto 64 26 Y dX6_isWhole_64 rfl rfl ?_
            obtain ⟨n1, hn, h⟩ := h
            exact Wk 26 _ [some mt, some (mi l1), some (mi 1), some (mi (l3 + 1))] _ _ ⟨rfl, ⟨rfl, ⟨rfl, ⟨rfl, trivial⟩⟩⟩⟩ (hIc n1 _ _ _ _ hn ((⟨rfl, _, _, _, rfl, rfl, h⟩)))
set_option maxHeartbeats 4000000 in
theorem of_keepWhole {g : mG} {S : mS} {a1 a2 a3 : Int} {Qp : Option mV → mS → Prop} (I3 : Nat → Int → Int → Int → Int → mS → Prop)
    (hE : mI S → (-2147483648 ≤ a1 ∧ a1 ≤ 2147483647) → (-2147483648 ≤ a2 ∧ a2 ≤ 2147483647) → (-2147483648 ≤ a3 ∧ a3 ≤ 2147483647) → (∃ n1, I3 n1 a1 a2 a3 0 S))
    (h3 : ∀ (n : Nat) (l1 l2 l3 l4 : Int) (T : mS), mI T → (-2147483648 ≤ l1 ∧ l1 ≤ 2147483647) → (-2147483648 ≤ l2 ∧ l2 ≤ 2147483647) → (-2147483648 ≤ l3 ∧ l3 ≤ 2147483647) → (-2147483648 ≤ l4 ∧ l4 ≤ 2147483647) → I3 n l1 l2 l3 l4 T → (0 ≤ l2) ∧ (l2 < 16) ∧ (((T 2 l2) ≤ l4) → (0 ≤ l1) ∧ (l1 < 27) ∧ (((T 2 l2) ≠ 0) → Qp none (mup (mup T 71 l1 (T 2 l2)) 72 l1 l3)) ∧ (¬ ((T 2 l2) ≠ 0) → Qp none (mup (mup T 71 l1 (T 2 l2)) 72 l1 0))) ∧ (¬ ((T 2 l2) ≤ l4) → (-2147483648 ≤ ((216 * l1) : Int) ∧ (216 * l1) ≤ 2147483647) ∧ (-2147483648 ≤ (((216 * l1) + l4) : Int) ∧ ((216 * l1) + l4) ≤ 2147483647) ∧ (-2147483648 ≤ ((440 * l2) : Int) ∧ (440 * l2) ≤ 2147483647) ∧ (-2147483648 ≤ (((440 * l2) + l4) : Int) ∧ ((440 * l2) + l4) ≤ 2147483647) ∧ (0 ≤ ((440 * l2) + l4)) ∧ (((440 * l2) + l4) < 7040) ∧ (0 ≤ ((216 * l1) + l4)) ∧ (((216 * l1) + l4) < 5832) ∧ (-2147483648 ≤ ((l4 + 1) : Int) ∧ (l4 + 1) ≤ 2147483647) ∧ (∃ n1, n1 < n ∧ I3 n1 l1 l2 l3 (l4 + 1) (mup T 70 ((216 * l1) + l4) (T 1 ((440 * l2) + l4))))))
    : CX_keepWhole g [mt, mi a1, mi a2, mi a3] S Qp := by
  refine cm_y ⟨by decide, rfl⟩ (by simp [mcat]) (by simp) (fun n pc L st S => (pc = 3 ∧ ∃ (l1 : Int) (l2 : Int) (l3 : Int) (l4 : Int), L = [some mt, some (mi l1), some (mi l2), some (mi l3), some (mi l4)] ∧ st = [] ∧ I3 n l1 l2 l3 l4 S)) ?_ ?_
  · intro ha hS P Y Wk hIc
    have h := hE hS (mokI (ha (mi a1) (by simp))) (mokI (ha (mi a2) (by simp))) (mokI (ha (mi a3) (by simp)))
    clear hE ha h3
    refine y_iconst 0 Y dX6_keepWhole_0 rfl ?_
    refine y_istore 1 Y [some mt, some (mi a1), some (mi a2), some (mi a3), some (mi 0)] dX6_keepWhole_1 rfl rfl ?_
    obtain ⟨n1, h⟩ := h
    exact Wk 3 _ [some mt, some (mi a1), some (mi a2), some (mi a3), some (mi 0)] _ _ ⟨rfl, ⟨rfl, ⟨rfl, ⟨rfl, ⟨rfl, trivial⟩⟩⟩⟩⟩ (hIc n1 _ _ _ _ ((⟨rfl, _, _, _, _, rfl, rfl, h⟩)))
  · intro n pc L st T hi hS hL P Y Wk hIc
    clear hE
    rcases hi with ⟨rfl, l1, l2, l3, l4, rfl, rfl, hi⟩
    · have h := h3 n l1 l2 l3 l4 T hS (hL 1 _ rfl) (hL 2 _ rfl) (hL 3 _ rfl) (hL 4 _ rfl) hi
      clear hL hi h3
      refine y_iload 3 Y dX6_keepWhole_3 rfl ?_
      refine y_aload_n 5 Y dX6_keepWhole_5 rfl ?_
      refine y_geta 6 Y 2 dX6_keepWhole_6 rfl rfl ?_
      refine y_iload_n 9 Y dX6_keepWhole_9 rfl ?_
      obtain ⟨o1, h⟩ := h
      obtain ⟨o2, h⟩ := h
      refine y_iald 10 Y dX6_keepWhole_10 rfl rfl o1 o2 (fun _ => ?_)
      refine y_icmp 11 46 Y dX6_keepWhole_11 rfl rfl (fun c => ?_) (fun c => ?_)
      · replace h := h.1 c
        refine y_aload_n 46 Y dX6_keepWhole_46 rfl ?_
        refine y_geta 47 Y 71 dX6_keepWhole_47 rfl rfl ?_
        refine y_iload_n 50 Y dX6_keepWhole_50 rfl ?_
        refine y_aload_n 51 Y dX6_keepWhole_51 rfl ?_
        refine y_geta 52 Y 2 dX6_keepWhole_52 rfl rfl ?_
        refine y_iload_n 55 Y dX6_keepWhole_55 rfl ?_
        refine y_iald 56 Y dX6_keepWhole_56 rfl rfl o1 o2 (fun _ => ?_)
        obtain ⟨o3, h⟩ := h
        obtain ⟨o4, h⟩ := h
        refine y_iast 57 Y dX6_keepWhole_57 rfl rfl o3 o4 ?_
        refine y_aload_n 58 Y dX6_keepWhole_58 rfl ?_
        refine y_geta 59 Y 72 dX6_keepWhole_59 rfl rfl ?_
        refine y_iload_n 62 Y dX6_keepWhole_62 rfl ?_
        refine y_aload_n 63 Y dX6_keepWhole_63 rfl ?_
        refine y_geta 64 Y 2 dX6_keepWhole_64 rfl rfl ?_
        refine y_iload_n 67 Y dX6_keepWhole_67 rfl ?_
        refine y_iald 68 Y dX6_keepWhole_68 rfl rfl o1 o2 (fun _ => ?_)
        refine y_if 69 76 Y dX6_keepWhole_69 rfl rfl (fun c => ?_) (fun c => ?_)
        · replace h := h.1 c
          refine y_iload_n 76 Y dX6_keepWhole_76 rfl ?_
          refine y_iast 77 Y dX6_keepWhole_77 rfl rfl o3 o4 ?_
          exact y_ret 78 Y dX6_keepWhole_78 rfl h
        · replace h := h.2 c
          refine y_iconst 72 Y dX6_keepWhole_72 rfl ?_
          refine y_goto 73 77 Y dX6_keepWhole_73 rfl rfl ?_
          refine y_iast 77 Y dX6_keepWhole_77 rfl rfl o3 o4 ?_
          exact y_ret 78 Y dX6_keepWhole_78 rfl h
      · replace h := h.2 c
        refine y_aload_n 14 Y dX6_keepWhole_14 rfl ?_
        refine y_geta 15 Y 70 dX6_keepWhole_15 rfl rfl ?_
        refine y_sipush 18 Y dX6_keepWhole_18 rfl ?_
        refine y_iload_n 21 Y dX6_keepWhole_21 rfl ?_
        obtain ⟨o5, h⟩ := h
        refine y_imul 22 Y dX6_keepWhole_22 o5 ?_
        refine y_iload 23 Y dX6_keepWhole_23 rfl ?_
        obtain ⟨o6, h⟩ := h
        refine y_iadd 25 Y dX6_keepWhole_25 o6 ?_
        refine y_aload_n 26 Y dX6_keepWhole_26 rfl ?_
        refine y_geta 27 Y 1 dX6_keepWhole_27 rfl rfl ?_
        refine y_sipush 30 Y dX6_keepWhole_30 rfl ?_
        refine y_iload_n 33 Y dX6_keepWhole_33 rfl ?_
        obtain ⟨o7, h⟩ := h
        refine y_imul 34 Y dX6_keepWhole_34 o7 ?_
        refine y_iload 35 Y dX6_keepWhole_35 rfl ?_
        obtain ⟨o8, h⟩ := h
        refine y_iadd 37 Y dX6_keepWhole_37 o8 ?_
        obtain ⟨o9, h⟩ := h
        obtain ⟨o10, h⟩ := h
        refine y_iald 38 Y dX6_keepWhole_38 rfl rfl o9 o10 (fun _ => ?_)
        obtain ⟨o11, h⟩ := h
        obtain ⟨o12, h⟩ := h
        refine y_iast 39 Y dX6_keepWhole_39 rfl rfl o11 o12 ?_
        obtain ⟨o13, h⟩ := h
        refine y_iinc 40 Y [some mt, some (mi l1), some (mi l2), some (mi l3), some (mi (l4 + 1))] dX6_keepWhole_40 rfl rfl o13 ?_
        refine y_goto 43 3 Y dX6_keepWhole_43 rfl rfl ?_
        obtain ⟨n1, hn, h⟩ := h
        exact Wk 3 _ [some mt, some (mi l1), some (mi l2), some (mi l3), some (mi (l4 + 1))] _ _ ⟨rfl, ⟨rfl, ⟨rfl, ⟨rfl, ⟨rfl, trivial⟩⟩⟩⟩⟩ (hIc n1 _ _ _ _ hn ((⟨rfl, _, _, _, _, rfl, rfl, h⟩)))
set_option maxHeartbeats 4000000 in
theorem of_loadAside {g : mG} {S : mS}  {Qp : Option mV → mS → Prop} (I28 : Nat → Int → mS → Prop)
    (hE : mI S → (∃ n1, I28 n1 0 (mup (mup S 2 2 (S 85 120)) 2 3 (S 85 121))))
    (h28 : ∀ (n : Nat) (l1 : Int) (T : mS), mI T → (-2147483648 ≤ l1 ∧ l1 ≤ 2147483647) → I28 n l1 T → ((60 ≤ l1) → Qp none T) ∧ (¬ (60 ≤ l1) → (-2147483648 ≤ ((880 + l1) : Int) ∧ (880 + l1) ≤ 2147483647) ∧ (0 ≤ l1) ∧ (l1 < 122) ∧ (0 ≤ (880 + l1)) ∧ ((880 + l1) < 7040) ∧ (-2147483648 ≤ ((1320 + l1) : Int) ∧ (1320 + l1) ≤ 2147483647) ∧ (-2147483648 ≤ ((60 + l1) : Int) ∧ (60 + l1) ≤ 2147483647) ∧ (0 ≤ (60 + l1)) ∧ ((60 + l1) < 122) ∧ (0 ≤ (1320 + l1)) ∧ ((1320 + l1) < 7040) ∧ (-2147483648 ≤ ((l1 + 1) : Int) ∧ (l1 + 1) ≤ 2147483647) ∧ (∃ n1, n1 < n ∧ I28 n1 (l1 + 1) (mup (mup T 1 (880 + l1) (T 85 l1)) 1 (1320 + l1) (T 85 (60 + l1))))))
    : CX_loadAside g [mt] S Qp := by
  refine cm_y ⟨by decide, rfl⟩ (by simp [mcat]) (by simp) (fun n pc L st S => (pc = 28 ∧ ∃ (l1 : Int), L = [some mt, some (mi l1)] ∧ st = [] ∧ I28 n l1 S)) ?_ ?_
  · intro ha hS P Y Wk hIc
    have h := hE hS
    clear hE ha h28
    refine y_aload_n 0 Y dX6_loadAside_0 rfl ?_
    refine y_geta 1 Y 2 dX6_loadAside_1 rfl rfl ?_
    refine y_iconst 4 Y dX6_loadAside_4 rfl ?_
    refine y_aload_n 5 Y dX6_loadAside_5 rfl ?_
    refine y_geta 6 Y 85 dX6_loadAside_6 rfl rfl ?_
    refine y_bipush 9 Y dX6_loadAside_9 rfl ?_
    refine y_iald 11 Y dX6_loadAside_11 rfl rfl (by decide) (by decide) (fun _ => ?_)
    refine y_iast 12 Y dX6_loadAside_12 rfl rfl (by decide) (by decide) ?_
    refine y_aload_n 13 Y dX6_loadAside_13 rfl ?_
    refine y_geta 14 Y 2 dX6_loadAside_14 rfl rfl ?_
    refine y_iconst 17 Y dX6_loadAside_17 rfl ?_
    refine y_aload_n 18 Y dX6_loadAside_18 rfl ?_
    refine y_geta 19 Y 85 dX6_loadAside_19 rfl rfl ?_
    refine y_bipush 22 Y dX6_loadAside_22 rfl ?_
    refine y_iald 24 Y dX6_loadAside_24 rfl rfl (by decide) (by decide) (fun _ => ?_)
    refine y_iast 25 Y dX6_loadAside_25 rfl rfl (by decide) (by decide) ?_
    refine y_iconst 26 Y dX6_loadAside_26 rfl ?_
    refine y_istore_n 27 Y [some mt, some (mi 0)] dX6_loadAside_27 rfl rfl ?_
    obtain ⟨n1, h⟩ := h
    exact Wk 28 _ [some mt, some (mi 0)] _ _ ⟨rfl, ⟨rfl, trivial⟩⟩ (hIc n1 _ _ _ _ ((⟨rfl, _, rfl, rfl, h⟩)))
  · intro n pc L st T hi hS hL P Y Wk hIc
    clear hE
    rcases hi with ⟨rfl, l1, rfl, rfl, hi⟩
    · have h := h28 n l1 T hS (hL 1 _ rfl) hi
      clear hL hi h28
      refine y_iload_n 28 Y dX6_loadAside_28 rfl ?_
      refine y_bipush 29 Y dX6_loadAside_29 rfl ?_
      refine y_icmp 31 75 Y dX6_loadAside_31 rfl rfl (fun c => ?_) (fun c => ?_)
      · replace h := h.1 c
        exact y_ret 75 Y dX6_loadAside_75 rfl h
      · replace h := h.2 c
        refine y_aload_n 34 Y dX6_loadAside_34 rfl ?_
        refine y_geta 35 Y 1 dX6_loadAside_35 rfl rfl ?_
        refine y_sipush 38 Y dX6_loadAside_38 rfl ?_
        refine y_iload_n 41 Y dX6_loadAside_41 rfl ?_
        obtain ⟨o1, h⟩ := h
        refine y_iadd 42 Y dX6_loadAside_42 o1 ?_
        refine y_aload_n 43 Y dX6_loadAside_43 rfl ?_
        refine y_geta 44 Y 85 dX6_loadAside_44 rfl rfl ?_
        refine y_iload_n 47 Y dX6_loadAside_47 rfl ?_
        obtain ⟨o2, h⟩ := h
        obtain ⟨o3, h⟩ := h
        refine y_iald 48 Y dX6_loadAside_48 rfl rfl o2 o3 (fun _ => ?_)
        obtain ⟨o4, h⟩ := h
        obtain ⟨o5, h⟩ := h
        refine y_iast 49 Y dX6_loadAside_49 rfl rfl o4 o5 ?_
        refine y_aload_n 50 Y dX6_loadAside_50 rfl ?_
        refine y_geta 51 Y 1 dX6_loadAside_51 rfl rfl ?_
        refine y_sipush 54 Y dX6_loadAside_54 rfl ?_
        refine y_iload_n 57 Y dX6_loadAside_57 rfl ?_
        obtain ⟨o6, h⟩ := h
        refine y_iadd 58 Y dX6_loadAside_58 o6 ?_
        refine y_aload_n 59 Y dX6_loadAside_59 rfl ?_
        refine y_geta 60 Y 85 dX6_loadAside_60 rfl rfl ?_
        refine y_bipush 63 Y dX6_loadAside_63 rfl ?_
        refine y_iload_n 65 Y dX6_loadAside_65 rfl ?_
        obtain ⟨o7, h⟩ := h
        refine y_iadd 66 Y dX6_loadAside_66 o7 ?_
        obtain ⟨o8, h⟩ := h
        obtain ⟨o9, h⟩ := h
        refine y_iald 67 Y dX6_loadAside_67 rfl rfl o8 o9 (fun _ => ?_)
        obtain ⟨o10, h⟩ := h
        obtain ⟨o11, h⟩ := h
        refine y_iast 68 Y dX6_loadAside_68 rfl rfl o10 o11 ?_
        obtain ⟨o12, h⟩ := h
        refine y_iinc 69 Y [some mt, some (mi (l1 + 1))] dX6_loadAside_69 rfl rfl o12 ?_
        refine y_goto 72 28 Y dX6_loadAside_72 rfl rfl ?_
        obtain ⟨n1, hn, h⟩ := h
        exact Wk 28 _ [some mt, some (mi (l1 + 1))] _ _ ⟨rfl, ⟨rfl, trivial⟩⟩ (hIc n1 _ _ _ _ hn ((⟨rfl, _, rfl, rfl, h⟩)))
set_option maxHeartbeats 4000000 in
theorem of_loadWhole {g : mG} {S : mS} {a1 a2 : Int} {Qp : Option mV → mS → Prop} (I2 : Nat → Int → Int → Int → mS → Prop)
    (hE : mI S → (-2147483648 ≤ a1 ∧ a1 ≤ 2147483647) → (-2147483648 ≤ a2 ∧ a2 ≤ 2147483647) → (∃ n1, I2 n1 a1 a2 0 S))
    (h2 : ∀ (n : Nat) (l1 l2 l3 : Int) (T : mS), mI T → (-2147483648 ≤ l1 ∧ l1 ≤ 2147483647) → (-2147483648 ≤ l2 ∧ l2 ≤ 2147483647) → (-2147483648 ≤ l3 ∧ l3 ≤ 2147483647) → I2 n l1 l2 l3 T → (0 ≤ l2) ∧ (l2 < 27) ∧ (((T 71 l2) ≤ l3) → (0 ≤ l1) ∧ (l1 < 16) ∧ Qp none (mup T 2 l1 (T 71 l2))) ∧ (¬ ((T 71 l2) ≤ l3) → (-2147483648 ≤ ((440 * l1) : Int) ∧ (440 * l1) ≤ 2147483647) ∧ (-2147483648 ≤ (((440 * l1) + l3) : Int) ∧ ((440 * l1) + l3) ≤ 2147483647) ∧ (-2147483648 ≤ ((216 * l2) : Int) ∧ (216 * l2) ≤ 2147483647) ∧ (-2147483648 ≤ (((216 * l2) + l3) : Int) ∧ ((216 * l2) + l3) ≤ 2147483647) ∧ (0 ≤ ((216 * l2) + l3)) ∧ (((216 * l2) + l3) < 5832) ∧ (0 ≤ ((440 * l1) + l3)) ∧ (((440 * l1) + l3) < 7040) ∧ (-2147483648 ≤ ((l3 + 1) : Int) ∧ (l3 + 1) ≤ 2147483647) ∧ (∃ n1, n1 < n ∧ I2 n1 l1 l2 (l3 + 1) (mup T 1 ((440 * l1) + l3) (T 70 ((216 * l2) + l3))))))
    : CX_loadWhole g [mt, mi a1, mi a2] S Qp := by
  refine cm_y ⟨by decide, rfl⟩ (by simp [mcat]) (by simp) (fun n pc L st S => (pc = 2 ∧ ∃ (l1 : Int) (l2 : Int) (l3 : Int), L = [some mt, some (mi l1), some (mi l2), some (mi l3)] ∧ st = [] ∧ I2 n l1 l2 l3 S)) ?_ ?_
  · intro ha hS P Y Wk hIc
    have h := hE hS (mokI (ha (mi a1) (by simp))) (mokI (ha (mi a2) (by simp)))
    clear hE ha h2
    refine y_iconst 0 Y dX6_loadWhole_0 rfl ?_
    refine y_istore_n 1 Y [some mt, some (mi a1), some (mi a2), some (mi 0)] dX6_loadWhole_1 rfl rfl ?_
    obtain ⟨n1, h⟩ := h
    exact Wk 2 _ [some mt, some (mi a1), some (mi a2), some (mi 0)] _ _ ⟨rfl, ⟨rfl, ⟨rfl, ⟨rfl, trivial⟩⟩⟩⟩ (hIc n1 _ _ _ _ ((⟨rfl, _, _, _, rfl, rfl, h⟩)))
  · intro n pc L st T hi hS hL P Y Wk hIc
    clear hE
    rcases hi with ⟨rfl, l1, l2, l3, rfl, rfl, hi⟩
    · have h := h2 n l1 l2 l3 T hS (hL 1 _ rfl) (hL 2 _ rfl) (hL 3 _ rfl) hi
      clear hL hi h2
      refine y_iload_n 2 Y dX6_loadWhole_2 rfl ?_
      refine y_aload_n 3 Y dX6_loadWhole_3 rfl ?_
      refine y_geta 4 Y 71 dX6_loadWhole_4 rfl rfl ?_
      refine y_iload_n 7 Y dX6_loadWhole_7 rfl ?_
      obtain ⟨o1, h⟩ := h
      obtain ⟨o2, h⟩ := h
      refine y_iald 8 Y dX6_loadWhole_8 rfl rfl o1 o2 (fun _ => ?_)
      refine y_icmp 9 42 Y dX6_loadWhole_9 rfl rfl (fun c => ?_) (fun c => ?_)
      · replace h := h.1 c
        refine y_aload_n 42 Y dX6_loadWhole_42 rfl ?_
        refine y_geta 43 Y 2 dX6_loadWhole_43 rfl rfl ?_
        refine y_iload_n 46 Y dX6_loadWhole_46 rfl ?_
        refine y_aload_n 47 Y dX6_loadWhole_47 rfl ?_
        refine y_geta 48 Y 71 dX6_loadWhole_48 rfl rfl ?_
        refine y_iload_n 51 Y dX6_loadWhole_51 rfl ?_
        refine y_iald 52 Y dX6_loadWhole_52 rfl rfl o1 o2 (fun _ => ?_)
        obtain ⟨o3, h⟩ := h
        obtain ⟨o4, h⟩ := h
        refine y_iast 53 Y dX6_loadWhole_53 rfl rfl o3 o4 ?_
        exact y_ret 54 Y dX6_loadWhole_54 rfl h
      · replace h := h.2 c
        refine y_aload_n 12 Y dX6_loadWhole_12 rfl ?_
        refine y_geta 13 Y 1 dX6_loadWhole_13 rfl rfl ?_
        refine y_sipush 16 Y dX6_loadWhole_16 rfl ?_
        refine y_iload_n 19 Y dX6_loadWhole_19 rfl ?_
        obtain ⟨o5, h⟩ := h
        refine y_imul 20 Y dX6_loadWhole_20 o5 ?_
        refine y_iload_n 21 Y dX6_loadWhole_21 rfl ?_
        obtain ⟨o6, h⟩ := h
        refine y_iadd 22 Y dX6_loadWhole_22 o6 ?_
        refine y_aload_n 23 Y dX6_loadWhole_23 rfl ?_
        refine y_geta 24 Y 70 dX6_loadWhole_24 rfl rfl ?_
        refine y_sipush 27 Y dX6_loadWhole_27 rfl ?_
        refine y_iload_n 30 Y dX6_loadWhole_30 rfl ?_
        obtain ⟨o7, h⟩ := h
        refine y_imul 31 Y dX6_loadWhole_31 o7 ?_
        refine y_iload_n 32 Y dX6_loadWhole_32 rfl ?_
        obtain ⟨o8, h⟩ := h
        refine y_iadd 33 Y dX6_loadWhole_33 o8 ?_
        obtain ⟨o9, h⟩ := h
        obtain ⟨o10, h⟩ := h
        refine y_iald 34 Y dX6_loadWhole_34 rfl rfl o9 o10 (fun _ => ?_)
        obtain ⟨o11, h⟩ := h
        obtain ⟨o12, h⟩ := h
        refine y_iast 35 Y dX6_loadWhole_35 rfl rfl o11 o12 ?_
        obtain ⟨o13, h⟩ := h
        refine y_iinc 36 Y [some mt, some (mi l1), some (mi l2), some (mi (l3 + 1))] dX6_loadWhole_36 rfl rfl o13 ?_
        refine y_goto 39 2 Y dX6_loadWhole_39 rfl rfl ?_
        obtain ⟨n1, hn, h⟩ := h
        exact Wk 2 _ [some mt, some (mi l1), some (mi l2), some (mi (l3 + 1))] _ _ ⟨rfl, ⟨rfl, ⟨rfl, ⟨rfl, trivial⟩⟩⟩⟩ (hIc n1 _ _ _ _ hn ((⟨rfl, _, _, _, rfl, rfl, h⟩)))
set_option maxHeartbeats 4000000 in
theorem of_nextWord {g : mG} {S : mS} {a1 : Int} {Qp : Option mV → mS → Prop} (I4 : Nat → Int → mS → Prop)
    (hE : mI S → (-2147483648 ≤ a1 ∧ a1 ≤ 2147483647) → (-2147483648 ≤ ((a1 + 1) : Int) ∧ (a1 + 1) ≤ 2147483647) ∧ (∃ n1, I4 n1 (a1 + 1) S))
    (h4 : ∀ (n : Nat) (l2 : Int) (T : mS), mI T → (-2147483648 ≤ l2 ∧ l2 ≤ 2147483647) → I4 n l2 T → (((T 25 0) ≤ l2) → Qp (some (mi l2)) T) ∧ (¬ ((T 25 0) ≤ l2) → (0 ≤ l2) ∧ (l2 < 1000) ∧ (((T 24 l2) = 0) → Qp (some (mi l2)) T) ∧ (¬ ((T 24 l2) = 0) → (-2147483648 ≤ ((l2 + 1) : Int) ∧ (l2 + 1) ≤ 2147483647) ∧ (∃ n1, n1 < n ∧ I4 n1 (l2 + 1) T))))
    : CX_nextWord g [mt, mi a1] S Qp := by
  refine cm_y ⟨by decide, rfl⟩ (by simp [mcat]) (by simp) (fun n pc L st S => (pc = 4 ∧ ∃ (l2 : Int), L = [some mt, none, some (mi l2)] ∧ st = [] ∧ I4 n l2 S)) ?_ ?_
  · intro ha hS P Y Wk hIc
    have h := hE hS (mokI (ha (mi a1) (by simp)))
    clear hE ha h4
    refine y_iload_n 0 Y dX6_nextWord_0 rfl ?_
    refine y_iconst 1 Y dX6_nextWord_1 rfl ?_
    obtain ⟨o1, h⟩ := h
    refine y_iadd 2 Y dX6_nextWord_2 o1 ?_
    refine y_istore_n 3 Y [some mt, some (mi a1), some (mi (a1 + 1))] dX6_nextWord_3 rfl rfl ?_
    obtain ⟨n1, h⟩ := h
    exact Wk 4 _ [some mt, none, some (mi (a1 + 1))] _ _ ⟨rfl, ⟨rfl, trivial⟩⟩ (hIc n1 _ _ _ _ ((⟨rfl, _, rfl, rfl, h⟩)))
  · intro n pc L st T hi hS hL P Y Wk hIc
    clear hE
    rcases hi with ⟨rfl, l2, rfl, rfl, hi⟩
    · have h := h4 n l2 T hS (hL 2 _ rfl) hi
      clear hL hi h4
      refine y_iload_n 4 Y dX6_nextWord_4 rfl ?_
      refine y_aload_n 5 Y dX6_nextWord_5 rfl ?_
      refine y_getf 6 Y 25 dX6_nextWord_6 rfl rfl (fun _ => ?_)
      refine y_icmp 9 27 Y dX6_nextWord_9 rfl rfl (fun c => ?_) (fun c => ?_)
      · replace h := h.1 c
        refine y_iload_n 27 Y dX6_nextWord_27 rfl ?_
        exact y_iret 28 Y dX6_nextWord_28 rfl h
      · replace h := h.2 c
        refine y_aload_n 12 Y dX6_nextWord_12 rfl ?_
        refine y_geta 13 Y 24 dX6_nextWord_13 rfl rfl ?_
        refine y_iload_n 16 Y dX6_nextWord_16 rfl ?_
        obtain ⟨o1, h⟩ := h
        obtain ⟨o2, h⟩ := h
        refine y_bald 17 Y dX6_nextWord_17 rfl rfl o1 o2 (fun _ => ?_)
        refine y_if 18 27 Y dX6_nextWord_18 rfl rfl (fun c => ?_) (fun c => ?_)
        · replace h := h.1 c
          refine y_iload_n 27 Y dX6_nextWord_27 rfl ?_
          exact y_iret 28 Y dX6_nextWord_28 rfl h
        · replace h := h.2 c
          obtain ⟨o3, h⟩ := h
          refine y_iinc 21 Y [some mt, none, some (mi (l2 + 1))] dX6_nextWord_21 rfl rfl o3 ?_
          refine y_goto 24 4 Y dX6_nextWord_24 rfl rfl ?_
          obtain ⟨n1, hn, h⟩ := h
          exact Wk 4 _ [some mt, none, some (mi (l2 + 1))] _ _ ⟨rfl, ⟨rfl, trivial⟩⟩ (hIc n1 _ _ _ _ hn ((⟨rfl, _, rfl, rfl, h⟩)))
set_option maxHeartbeats 4000000 in
theorem of_node {g : mG} {S : mS} {a1 a2 a3 a4 a5 : Int} {Qp : Option mV → mS → Prop}
    (hE : mI S → (-2147483648 ≤ a1 ∧ a1 ≤ 2147483647) → (-2147483648 ≤ a2 ∧ a2 ≤ 2147483647) → (-2147483648 ≤ a3 ∧ a3 ≤ 2147483647) → (-2147483648 ≤ a4 ∧ a4 ≤ 2147483647) → (-2147483648 ≤ a5 ∧ a5 ≤ 2147483647) → (0 ≤ a1) ∧ (a1 < 20300) ∧ Qp none (mup (mup (mup (mup (mup S 4 a1 a2) 5 a1 a3) 6 a1 a4) 7 a1 a5) 8 a1 1))
    : CX_node g [mt, mi a1, mi a2, mi a3, mi a4, mi a5] S Qp := by
  refine cm_y ⟨by decide, rfl⟩ (by simp [mcat]) (by simp) (fun _ _ _ _ _ => False) ?_ ?_
  · intro ha hS P Y Wk hIc
    have h := hE hS (mokI (ha (mi a1) (by simp))) (mokI (ha (mi a2) (by simp))) (mokI (ha (mi a3) (by simp))) (mokI (ha (mi a4) (by simp))) (mokI (ha (mi a5) (by simp)))
    clear hE ha
    refine y_aload_n 0 Y dX6_node_0 rfl ?_
    refine y_geta 1 Y 4 dX6_node_1 rfl rfl ?_
    refine y_iload_n 4 Y dX6_node_4 rfl ?_
    refine y_iload_n 5 Y dX6_node_5 rfl ?_
    obtain ⟨o1, h⟩ := h
    obtain ⟨o2, h⟩ := h
    refine y_iast 6 Y dX6_node_6 rfl rfl o1 o2 ?_
    refine y_aload_n 7 Y dX6_node_7 rfl ?_
    refine y_geta 8 Y 5 dX6_node_8 rfl rfl ?_
    refine y_iload_n 11 Y dX6_node_11 rfl ?_
    refine y_iload_n 12 Y dX6_node_12 rfl ?_
    refine y_iast 13 Y dX6_node_13 rfl rfl o1 o2 ?_
    refine y_aload_n 14 Y dX6_node_14 rfl ?_
    refine y_geta 15 Y 6 dX6_node_15 rfl rfl ?_
    refine y_iload_n 18 Y dX6_node_18 rfl ?_
    refine y_iload 19 Y dX6_node_19 rfl ?_
    refine y_iast 21 Y dX6_node_21 rfl rfl o1 o2 ?_
    refine y_aload_n 22 Y dX6_node_22 rfl ?_
    refine y_geta 23 Y 7 dX6_node_23 rfl rfl ?_
    refine y_iload_n 26 Y dX6_node_26 rfl ?_
    refine y_iload 27 Y dX6_node_27 rfl ?_
    refine y_iast 29 Y dX6_node_29 rfl rfl o1 o2 ?_
    refine y_aload_n 30 Y dX6_node_30 rfl ?_
    refine y_geta 31 Y 8 dX6_node_31 rfl rfl ?_
    refine y_iload_n 34 Y dX6_node_34 rfl ?_
    refine y_iconst 35 Y dX6_node_35 rfl ?_
    refine y_iast 36 Y dX6_node_36 rfl rfl o1 o2 ?_
    exact y_ret 37 Y dX6_node_37 rfl h
  · intro n pc L st T hi
    exact hi.elim
set_option maxHeartbeats 4000000 in
theorem of_note {g : mG} {S : mS} {a1 a2 a3 a4 a5 : Int} {Qp : Option mV → mS → Prop}
    (hE : mI S → (-2147483648 ≤ a1 ∧ a1 ≤ 2147483647) → (-2147483648 ≤ a2 ∧ a2 ≤ 2147483647) → (-2147483648 ≤ a3 ∧ a3 ≤ 2147483647) → (-2147483648 ≤ a4 ∧ a4 ≤ 2147483647) → (-2147483648 ≤ a5 ∧ a5 ≤ 2147483647) → (((S 84 0) ≠ 20) → (-2147483648 ≤ (((S 83 0) + (S 84 0)) : Int) ∧ ((S 83 0) + (S 84 0)) ≤ 2147483647) ∧ (0 ≤ ((S 83 0) + (S 84 0))) ∧ (0 ≤ (((S 83 0) + (S 84 0)) % 20)) ∧ ((((S 83 0) + (S 84 0)) % 20) < 20) ∧ (-2147483648 ≤ (((S 84 0) + 1) : Int) ∧ ((S 84 0) + 1) ≤ 2147483647) ∧ Qp (some (mi (((S 83 0) + (S 84 0)) % 20))) (mup (mup (mup (mup (mup (mup S 77 (((S 83 0) + (S 84 0)) % 20) a1) 78 (((S 83 0) + (S 84 0)) % 20) a2) 79 (((S 83 0) + (S 84 0)) % 20) a3) 80 (((S 83 0) + (S 84 0)) % 20) a4) 81 (((S 83 0) + (S 84 0)) % 20) a5) 84 0 ((S 84 0) + 1))) ∧ (¬ ((S 84 0) ≠ 20) → (-2147483648 ≤ (((S 83 0) + 1) : Int) ∧ ((S 83 0) + 1) ≤ 2147483647) ∧ (0 ≤ ((S 83 0) + 1)) ∧ (-2147483648 ≤ (((S 84 0) - 1) : Int) ∧ ((S 84 0) - 1) ≤ 2147483647) ∧ (-2147483648 ≤ ((mup S 83 0 (((S 83 0) + 1) % 20)) 83 0) ∧ ((mup S 83 0 (((S 83 0) + 1) % 20)) 83 0) ≤ 2147483647 → (-2147483648 ≤ ((mup S 84 0 ((S 84 0) - 1)) 84 0) ∧ ((mup S 84 0 ((S 84 0) - 1)) 84 0) ≤ 2147483647 → (-2147483648 ≤ ((((mup S 83 0 (((S 83 0) + 1) % 20)) 83 0) + ((mup S 84 0 ((S 84 0) - 1)) 84 0)) : Int) ∧ (((mup S 83 0 (((S 83 0) + 1) % 20)) 83 0) + ((mup S 84 0 ((S 84 0) - 1)) 84 0)) ≤ 2147483647) ∧ (0 ≤ (((mup S 83 0 (((S 83 0) + 1) % 20)) 83 0) + ((mup S 84 0 ((S 84 0) - 1)) 84 0))) ∧ (0 ≤ ((((mup S 83 0 (((S 83 0) + 1) % 20)) 83 0) + ((mup S 84 0 ((S 84 0) - 1)) 84 0)) % 20)) ∧ (((((mup S 83 0 (((S 83 0) + 1) % 20)) 83 0) + ((mup S 84 0 ((S 84 0) - 1)) 84 0)) % 20) < 20) ∧ (-2147483648 ≤ ((mup S 84 0 ((S 84 0) - 1)) 84 0) ∧ ((mup S 84 0 ((S 84 0) - 1)) 84 0) ≤ 2147483647 → (-2147483648 ≤ ((((mup S 84 0 ((S 84 0) - 1)) 84 0) + 1) : Int) ∧ (((mup S 84 0 ((S 84 0) - 1)) 84 0) + 1) ≤ 2147483647) ∧ Qp (some (mi ((((mup S 83 0 (((S 83 0) + 1) % 20)) 83 0) + ((mup S 84 0 ((S 84 0) - 1)) 84 0)) % 20))) (mup (mup (mup (mup (mup (mup (mup (mup S 83 0 (((S 83 0) + 1) % 20)) 84 0 ((S 84 0) - 1)) 77 ((((mup S 83 0 (((S 83 0) + 1) % 20)) 83 0) + ((mup S 84 0 ((S 84 0) - 1)) 84 0)) % 20) a1) 78 ((((mup S 83 0 (((S 83 0) + 1) % 20)) 83 0) + ((mup S 84 0 ((S 84 0) - 1)) 84 0)) % 20) a2) 79 ((((mup S 83 0 (((S 83 0) + 1) % 20)) 83 0) + ((mup S 84 0 ((S 84 0) - 1)) 84 0)) % 20) a3) 80 ((((mup S 83 0 (((S 83 0) + 1) % 20)) 83 0) + ((mup S 84 0 ((S 84 0) - 1)) 84 0)) % 20) a4) 81 ((((mup S 83 0 (((S 83 0) + 1) % 20)) 83 0) + ((mup S 84 0 ((S 84 0) - 1)) 84 0)) % 20) a5) 84 0 (((mup S 84 0 ((S 84 0) - 1)) 84 0) + 1)))))))
    : CX_note g [mt, mi a1, mi a2, mi a3, mi a4, mi a5] S Qp := by
  refine cm_y ⟨by decide, rfl⟩ (by simp [mcat]) (by simp) (fun _ _ _ _ _ => False) ?_ ?_
  · intro ha hS P Y Wk hIc
    have h := hE hS (mokI (ha (mi a1) (by simp))) (mokI (ha (mi a2) (by simp))) (mokI (ha (mi a3) (by simp))) (mokI (ha (mi a4) (by simp))) (mokI (ha (mi a5) (by simp)))
    clear hE ha
    refine y_aload_n 0 Y dX6_note_0 rfl ?_
    refine y_getf 1 Y 84 dX6_note_1 rfl rfl (fun _ => ?_)
    refine y_bipush 4 Y dX6_note_4 rfl ?_
    refine y_icmp 6 32 Y dX6_note_6 rfl rfl (fun c => ?_) (fun c => ?_)
    · replace h := h.1 c
      refine y_aload_n 32 Y dX6_note_32 rfl ?_
      refine y_getf 33 Y 83 dX6_note_33 rfl rfl (fun _ => ?_)
      refine y_aload_n 36 Y dX6_note_36 rfl ?_
      refine y_getf 37 Y 84 dX6_note_37 rfl rfl (fun _ => ?_)
      obtain ⟨o1, h⟩ := h
      refine y_iadd 40 Y dX6_note_40 o1 ?_
      refine y_bipush 41 Y dX6_note_41 rfl ?_
      obtain ⟨o2, h⟩ := h
      refine y_irem 43 Y dX6_note_43 o2 (by decide) ?_
      refine y_istore 44 Y [some mt, some (mi a1), some (mi a2), some (mi a3), some (mi a4), some (mi a5), some (mi (((S 83 0) + (S 84 0)) % 20))] dX6_note_44 rfl rfl ?_
      refine y_aload_n 46 Y dX6_note_46 rfl ?_
      refine y_geta 47 Y 77 dX6_note_47 rfl rfl ?_
      refine y_iload 50 Y dX6_note_50 rfl ?_
      refine y_iload_n 52 Y dX6_note_52 rfl ?_
      obtain ⟨o3, h⟩ := h
      obtain ⟨o4, h⟩ := h
      refine y_iast 53 Y dX6_note_53 rfl rfl o3 o4 ?_
      refine y_aload_n 54 Y dX6_note_54 rfl ?_
      refine y_geta 55 Y 78 dX6_note_55 rfl rfl ?_
      refine y_iload 58 Y dX6_note_58 rfl ?_
      refine y_iload_n 60 Y dX6_note_60 rfl ?_
      refine y_iast 61 Y dX6_note_61 rfl rfl o3 o4 ?_
      refine y_aload_n 62 Y dX6_note_62 rfl ?_
      refine y_geta 63 Y 79 dX6_note_63 rfl rfl ?_
      refine y_iload 66 Y dX6_note_66 rfl ?_
      refine y_iload_n 68 Y dX6_note_68 rfl ?_
      refine y_iast 69 Y dX6_note_69 rfl rfl o3 o4 ?_
      refine y_aload_n 70 Y dX6_note_70 rfl ?_
      refine y_geta 71 Y 80 dX6_note_71 rfl rfl ?_
      refine y_iload 74 Y dX6_note_74 rfl ?_
      refine y_iload 76 Y dX6_note_76 rfl ?_
      refine y_iast 78 Y dX6_note_78 rfl rfl o3 o4 ?_
      refine y_aload_n 79 Y dX6_note_79 rfl ?_
      refine y_geta 80 Y 81 dX6_note_80 rfl rfl ?_
      refine y_iload 83 Y dX6_note_83 rfl ?_
      refine y_iload 85 Y dX6_note_85 rfl ?_
      refine y_iast 87 Y dX6_note_87 rfl rfl o3 o4 ?_
      refine y_aload_n 88 Y dX6_note_88 rfl ?_
      refine y_dup 89 Y dX6_note_89 rfl ?_
      refine y_getf 90 Y 84 dX6_note_90 rfl rfl (fun _ => ?_)
      refine y_iconst 93 Y dX6_note_93 rfl ?_
      obtain ⟨o5, h⟩ := h
      refine y_iadd 94 Y dX6_note_94 o5 ?_
      refine y_putf 95 Y 84 dX6_note_95 rfl rfl (fun q => absurd q (by decide)) ?_
      refine y_iload 98 Y dX6_note_98 rfl ?_
      exact y_iret 100 Y dX6_note_100 rfl h
    · replace h := h.2 c
      refine y_aload_n 9 Y dX6_note_9 rfl ?_
      refine y_aload_n 10 Y dX6_note_10 rfl ?_
      refine y_getf 11 Y 83 dX6_note_11 rfl rfl (fun _ => ?_)
      refine y_iconst 14 Y dX6_note_14 rfl ?_
      obtain ⟨o6, h⟩ := h
      refine y_iadd 15 Y dX6_note_15 o6 ?_
      refine y_bipush 16 Y dX6_note_16 rfl ?_
      obtain ⟨o7, h⟩ := h
      refine y_irem 18 Y dX6_note_18 o7 (by decide) ?_
      refine y_putf 19 Y 83 dX6_note_19 rfl rfl (fun q => absurd q (by decide)) ?_
      refine y_aload_n 22 Y dX6_note_22 rfl ?_
      refine y_dup 23 Y dX6_note_23 rfl ?_
      refine y_getf 24 Y 84 dX6_note_24 rfl rfl (fun _ => ?_)
      refine y_iconst 27 Y dX6_note_27 rfl ?_
      obtain ⟨o8, h⟩ := h
      refine y_isub 28 Y dX6_note_28 o8 ?_
      refine y_putf 29 Y 84 dX6_note_29 rfl rfl (fun q => absurd q (by decide)) ?_
      refine y_aload_n 32 Y dX6_note_32 rfl ?_
      refine y_getf 33 Y 83 dX6_note_33 rfl rfl (fun q => ?_)
      replace h := h q
      refine y_aload_n 36 Y dX6_note_36 rfl ?_
      refine y_getf 37 Y 84 dX6_note_37 rfl rfl (fun q => ?_)
      replace h := h q
      obtain ⟨o9, h⟩ := h
      refine y_iadd 40 Y dX6_note_40 o9 ?_
      refine y_bipush 41 Y dX6_note_41 rfl ?_
      obtain ⟨o10, h⟩ := h
      refine y_irem 43 Y dX6_note_43 o10 (by decide) ?_
      refine y_istore 44 Y [some mt, some (mi a1), some (mi a2), some (mi a3), some (mi a4), some (mi a5), some (mi ((((mup S 83 0 (((S 83 0) + 1) % 20)) 83 0) + ((mup S 84 0 ((S 84 0) - 1)) 84 0)) % 20))] dX6_note_44 rfl rfl ?_
      refine y_aload_n 46 Y dX6_note_46 rfl ?_
      refine y_geta 47 Y 77 dX6_note_47 rfl rfl ?_
      refine y_iload 50 Y dX6_note_50 rfl ?_
      refine y_iload_n 52 Y dX6_note_52 rfl ?_
      obtain ⟨o11, h⟩ := h
      obtain ⟨o12, h⟩ := h
      refine y_iast 53 Y dX6_note_53 rfl rfl o11 o12 ?_
      refine y_aload_n 54 Y dX6_note_54 rfl ?_
      refine y_geta 55 Y 78 dX6_note_55 rfl rfl ?_
      refine y_iload 58 Y dX6_note_58 rfl ?_
      refine y_iload_n 60 Y dX6_note_60 rfl ?_
      refine y_iast 61 Y dX6_note_61 rfl rfl o11 o12 ?_
      refine y_aload_n 62 Y dX6_note_62 rfl ?_
      refine y_geta 63 Y 79 dX6_note_63 rfl rfl ?_
      refine y_iload 66 Y dX6_note_66 rfl ?_
      refine y_iload_n 68 Y dX6_note_68 rfl ?_
      refine y_iast 69 Y dX6_note_69 rfl rfl o11 o12 ?_
      refine y_aload_n 70 Y dX6_note_70 rfl ?_
      refine y_geta 71 Y 80 dX6_note_71 rfl rfl ?_
      refine y_iload 74 Y dX6_note_74 rfl ?_
      refine y_iload 76 Y dX6_note_76 rfl ?_
      refine y_iast 78 Y dX6_note_78 rfl rfl o11 o12 ?_
      refine y_aload_n 79 Y dX6_note_79 rfl ?_
      refine y_geta 80 Y 81 dX6_note_80 rfl rfl ?_
      refine y_iload 83 Y dX6_note_83 rfl ?_
      refine y_iload 85 Y dX6_note_85 rfl ?_
      refine y_iast 87 Y dX6_note_87 rfl rfl o11 o12 ?_
      refine y_aload_n 88 Y dX6_note_88 rfl ?_
      refine y_dup 89 Y dX6_note_89 rfl ?_
      refine y_getf 90 Y 84 dX6_note_90 rfl rfl (fun q => ?_)
      replace h := h q
      refine y_iconst 93 Y dX6_note_93 rfl ?_
      obtain ⟨o13, h⟩ := h
      refine y_iadd 94 Y dX6_note_94 o13 ?_
      refine y_putf 95 Y 84 dX6_note_95 rfl rfl (fun q => absurd q (by decide)) ?_
      refine y_iload 98 Y dX6_note_98 rfl ?_
      exact y_iret 100 Y dX6_note_100 rfl h
  · intro n pc L st T hi
    exact hi.elim
set_option maxHeartbeats 4000000 in
theorem of_opens {g : mG} {S : mS} {a1 a2 a3 : Int} {Qp : Option mV → mS → Prop}
    (hE : mI S → (-2147483648 ≤ a1 ∧ a1 ≤ 2147483647) → (-2147483648 ≤ a2 ∧ a2 ≤ 2147483647) → (-2147483648 ≤ a3 ∧ a3 ≤ 2147483647) → (0 ≤ (S 40 0)) ∧ ((S 40 0) < 600) ∧ (-2147483648 ≤ (((S 40 0) + 1) : Int) ∧ ((S 40 0) + 1) ≤ 2147483647) ∧ Qp none (mup (mup (mup (mup S 37 (S 40 0) a1) 38 (S 40 0) a2) 39 (S 40 0) a3) 40 0 ((S 40 0) + 1)))
    : CX_opens g [mt, mi a1, mi a2, mi a3] S Qp := by
  refine cm_y ⟨by decide, rfl⟩ (by simp [mcat]) (by simp) (fun _ _ _ _ _ => False) ?_ ?_
  · intro ha hS P Y Wk hIc
    have h := hE hS (mokI (ha (mi a1) (by simp))) (mokI (ha (mi a2) (by simp))) (mokI (ha (mi a3) (by simp)))
    clear hE ha
    refine y_aload_n 0 Y dX6_opens_0 rfl ?_
    refine y_geta 1 Y 37 dX6_opens_1 rfl rfl ?_
    refine y_aload_n 4 Y dX6_opens_4 rfl ?_
    refine y_getf 5 Y 40 dX6_opens_5 rfl rfl (fun _ => ?_)
    refine y_iload_n 8 Y dX6_opens_8 rfl ?_
    obtain ⟨o1, h⟩ := h
    obtain ⟨o2, h⟩ := h
    refine y_iast 9 Y dX6_opens_9 rfl rfl o1 o2 ?_
    refine y_aload_n 10 Y dX6_opens_10 rfl ?_
    refine y_geta 11 Y 38 dX6_opens_11 rfl rfl ?_
    refine y_aload_n 14 Y dX6_opens_14 rfl ?_
    refine y_getf 15 Y 40 dX6_opens_15 rfl rfl (fun _ => ?_)
    refine y_iload_n 18 Y dX6_opens_18 rfl ?_
    refine y_iast 19 Y dX6_opens_19 rfl rfl o1 o2 ?_
    refine y_aload_n 20 Y dX6_opens_20 rfl ?_
    refine y_geta 21 Y 39 dX6_opens_21 rfl rfl ?_
    refine y_aload_n 24 Y dX6_opens_24 rfl ?_
    refine y_getf 25 Y 40 dX6_opens_25 rfl rfl (fun _ => ?_)
    refine y_iload_n 28 Y dX6_opens_28 rfl ?_
    refine y_iast 29 Y dX6_opens_29 rfl rfl o1 o2 ?_
    refine y_aload_n 30 Y dX6_opens_30 rfl ?_
    refine y_dup 31 Y dX6_opens_31 rfl ?_
    refine y_getf 32 Y 40 dX6_opens_32 rfl rfl (fun _ => ?_)
    refine y_iconst 35 Y dX6_opens_35 rfl ?_
    obtain ⟨o3, h⟩ := h
    refine y_iadd 36 Y dX6_opens_36 o3 ?_
    refine y_putf 37 Y 40 dX6_opens_37 rfl rfl (fun q => absurd q (by decide)) ?_
    exact y_ret 40 Y dX6_opens_40 rfl h
  · intro n pc L st T hi
    exact hi.elim
set_option maxHeartbeats 4000000 in
theorem of_parentOf {g : mG} {S : mS} {a1 a2 : Int} {Qp : Option mV → mS → Prop} (I4 : Nat → Int → Int → Int → mS → Prop)
    (hE : mI S → (-2147483648 ≤ a1 ∧ a1 ≤ 2147483647) → (-2147483648 ≤ a2 ∧ a2 ≤ 2147483647) → (-2147483648 ≤ ((a2 - 1) : Int) ∧ (a2 - 1) ≤ 2147483647) ∧ (∃ n1, I4 n1 a1 a2 (a2 - 1) S))
    (h4 : ∀ (n : Nat) (l1 l2 l3 : Int) (T : mS), mI T → (-2147483648 ≤ l1 ∧ l1 ≤ 2147483647) → (-2147483648 ≤ l2 ∧ l2 ≤ 2147483647) → (-2147483648 ≤ l3 ∧ l3 ≤ 2147483647) → I4 n l1 l2 l3 T → ((l3 < l1) → ((l1 ≤ l3) → (-2147483648 ≤ ((l3 - l1) : Int) ∧ (l3 - l1) ≤ 2147483647) ∧ Qp (some (mi (l3 - l1))) T) ∧ (¬ (l1 ≤ l3) → Qp (some (mi (-1))) T)) ∧ (¬ (l3 < l1) → (0 ≤ l3) ∧ (l3 < 20300) ∧ (-2147483648 ≤ ((l3 + (T 8 l3)) : Int) ∧ (l3 + (T 8 l3)) ≤ 2147483647) ∧ ((l2 < (l3 + (T 8 l3))) → ((l1 ≤ l3) → (-2147483648 ≤ ((l3 - l1) : Int) ∧ (l3 - l1) ≤ 2147483647) ∧ Qp (some (mi (l3 - l1))) T) ∧ (¬ (l1 ≤ l3) → Qp (some (mi (-1))) T)) ∧ (¬ (l2 < (l3 + (T 8 l3))) → (-2147483648 ≤ ((l3 + (-1)) : Int) ∧ (l3 + (-1)) ≤ 2147483647) ∧ (∃ n1, n1 < n ∧ I4 n1 l1 l2 (l3 + (-1)) T))))
    : CX_parentOf g [mt, mi a1, mi a2] S Qp := by
  refine cm_y ⟨by decide, rfl⟩ (by simp [mcat]) (by simp) (fun n pc L st S => (pc = 4 ∧ ∃ (l1 : Int) (l2 : Int) (l3 : Int), L = [some mt, some (mi l1), some (mi l2), some (mi l3)] ∧ st = [] ∧ I4 n l1 l2 l3 S)) ?_ ?_
  · intro ha hS P Y Wk hIc
    have h := hE hS (mokI (ha (mi a1) (by simp))) (mokI (ha (mi a2) (by simp)))
    clear hE ha h4
    refine y_iload_n 0 Y dX6_parentOf_0 rfl ?_
    refine y_iconst 1 Y dX6_parentOf_1 rfl ?_
    obtain ⟨o1, h⟩ := h
    refine y_isub 2 Y dX6_parentOf_2 o1 ?_
    refine y_istore_n 3 Y [some mt, some (mi a1), some (mi a2), some (mi (a2 - 1))] dX6_parentOf_3 rfl rfl ?_
    obtain ⟨n1, h⟩ := h
    exact Wk 4 _ [some mt, some (mi a1), some (mi a2), some (mi (a2 - 1))] _ _ ⟨rfl, ⟨rfl, ⟨rfl, ⟨rfl, trivial⟩⟩⟩⟩ (hIc n1 _ _ _ _ ((⟨rfl, _, _, _, rfl, rfl, h⟩)))
  · intro n pc L st T hi hS hL P Y Wk hIc
    clear hE
    rcases hi with ⟨rfl, l1, l2, l3, rfl, rfl, hi⟩
    · have h := h4 n l1 l2 l3 T hS (hL 1 _ rfl) (hL 2 _ rfl) (hL 3 _ rfl) hi
      clear hL hi h4
      refine y_iload_n 4 Y dX6_parentOf_4 rfl ?_
      refine y_iload_n 5 Y dX6_parentOf_5 rfl ?_
      refine y_icmp 6 27 Y dX6_parentOf_6 rfl rfl (fun c => ?_) (fun c => ?_)
      · replace h := h.1 c
        refine y_iload_n 27 Y dX6_parentOf_27 rfl ?_
        refine y_iload_n 28 Y dX6_parentOf_28 rfl ?_
        refine y_icmp 29 36 Y dX6_parentOf_29 rfl rfl (fun c => ?_) (fun c => ?_)
        · replace h := h.1 c
          refine y_iload_n 36 Y dX6_parentOf_36 rfl ?_
          refine y_iload_n 37 Y dX6_parentOf_37 rfl ?_
          obtain ⟨o1, h⟩ := h
          refine y_isub 38 Y dX6_parentOf_38 o1 ?_
          exact y_iret 39 Y dX6_parentOf_39 rfl h
        · replace h := h.2 c
          refine y_iconst 32 Y dX6_parentOf_32 rfl ?_
          refine y_goto 33 39 Y dX6_parentOf_33 rfl rfl ?_
          exact y_iret 39 Y dX6_parentOf_39 rfl h
      · replace h := h.2 c
        refine y_iload_n 9 Y dX6_parentOf_9 rfl ?_
        refine y_aload_n 10 Y dX6_parentOf_10 rfl ?_
        refine y_geta 11 Y 8 dX6_parentOf_11 rfl rfl ?_
        refine y_iload_n 14 Y dX6_parentOf_14 rfl ?_
        obtain ⟨o2, h⟩ := h
        obtain ⟨o3, h⟩ := h
        refine y_iald 15 Y dX6_parentOf_15 rfl rfl o2 o3 (fun _ => ?_)
        obtain ⟨o4, h⟩ := h
        refine y_iadd 16 Y dX6_parentOf_16 o4 ?_
        refine y_iload_n 17 Y dX6_parentOf_17 rfl ?_
        refine y_icmp 18 27 Y dX6_parentOf_18 rfl rfl (fun c => ?_) (fun c => ?_)
        · replace h := h.1 c
          refine y_iload_n 27 Y dX6_parentOf_27 rfl ?_
          refine y_iload_n 28 Y dX6_parentOf_28 rfl ?_
          refine y_icmp 29 36 Y dX6_parentOf_29 rfl rfl (fun c => ?_) (fun c => ?_)
          · replace h := h.1 c
            refine y_iload_n 36 Y dX6_parentOf_36 rfl ?_
            refine y_iload_n 37 Y dX6_parentOf_37 rfl ?_
            obtain ⟨o5, h⟩ := h
            refine y_isub 38 Y dX6_parentOf_38 o5 ?_
            exact y_iret 39 Y dX6_parentOf_39 rfl h
          · replace h := h.2 c
            refine y_iconst 32 Y dX6_parentOf_32 rfl ?_
            refine y_goto 33 39 Y dX6_parentOf_33 rfl rfl ?_
            exact y_iret 39 Y dX6_parentOf_39 rfl h
        · replace h := h.2 c
          obtain ⟨o6, h⟩ := h
          refine y_iinc 21 Y [some mt, some (mi l1), some (mi l2), some (mi (l3 + (-1)))] dX6_parentOf_21 rfl rfl o6 ?_
          refine y_goto 24 4 Y dX6_parentOf_24 rfl rfl ?_
          obtain ⟨n1, hn, h⟩ := h
          exact Wk 4 _ [some mt, some (mi l1), some (mi l2), some (mi (l3 + (-1)))] _ _ ⟨rfl, ⟨rfl, ⟨rfl, ⟨rfl, trivial⟩⟩⟩⟩ (hIc n1 _ _ _ _ hn ((⟨rfl, _, _, _, rfl, rfl, h⟩)))
set_option maxHeartbeats 4000000 in
theorem of_partAt {g : mG} {S : mS} {a1 : Int} {Qp : Option mV → mS → Prop}
    (hE : mI S → (-2147483648 ≤ a1 ∧ a1 ≤ 2147483647) → (-2147483648 ≤ ((2 * a1) : Int) ∧ (2 * a1) ≤ 2147483647) ∧ (-2147483648 ≤ ((2500 + (2 * a1)) : Int) ∧ (2500 + (2 * a1)) ≤ 2147483647) ∧ (-2147483648 ≤ (((2500 + (2 * a1)) + 1) : Int) ∧ ((2500 + (2 * a1)) + 1) ≤ 2147483647) ∧ Qp (some (mi ((2500 + (2 * a1)) + 1))) S)
    : CX_partAt g [mi a1] S Qp := by
  refine cm_y ⟨by decide, rfl⟩ (by simp [mcat]) (by simp) (fun _ _ _ _ _ => False) ?_ ?_
  · intro ha hS P Y Wk hIc
    have h := hE hS (mokI (ha (mi a1) (by simp)))
    clear hE ha
    refine y_sipush 0 Y dX6_partAt_0 rfl ?_
    refine y_iconst 3 Y dX6_partAt_3 rfl ?_
    refine y_iload_n 4 Y dX6_partAt_4 rfl ?_
    obtain ⟨o1, h⟩ := h
    refine y_imul 5 Y dX6_partAt_5 o1 ?_
    obtain ⟨o2, h⟩ := h
    refine y_iadd 6 Y dX6_partAt_6 o2 ?_
    refine y_iconst 7 Y dX6_partAt_7 rfl ?_
    obtain ⟨o3, h⟩ := h
    refine y_iadd 8 Y dX6_partAt_8 o3 ?_
    exact y_iret 9 Y dX6_partAt_9 rfl h
  · intro n pc L st T hi
    exact hi.elim

/-! Contracts out of conditions; printed by gen_vc.py. -/
set_option maxRecDepth 100000
set_option maxHeartbeats 4000000 in
theorem of_common {g : mG} {S : mS} {a1 a2 : Int} {Qp : Option mV → mS → Prop} (I2 : Nat → Int → Int → Int → mS → Prop) (I45 : Nat → Int → Int → Int → mS → Prop) (I54 : Nat → Int → Int → Int → mS → Prop) (I71 : Nat → Int → Int → Int → mS → Prop) (I124 : Nat → Int → Int → Int → mS → Prop)
    (hE : mI S → (-2147483648 ≤ a1 ∧ a1 ≤ 2147483647) → (-2147483648 ≤ a2 ∧ a2 ≤ 2147483647) → (∃ n1, I2 n1 a1 a2 0 S))
    (h2 : ∀ (n : Nat) (l1 l2 l3 : Int) (T : mS), mI T → (-2147483648 ≤ l1 ∧ l1 ≤ 2147483647) → (-2147483648 ≤ l2 ∧ l2 ≤ 2147483647) → (-2147483648 ≤ l3 ∧ l3 ≤ 2147483647) → I2 n l1 l2 l3 T → (0 ≤ l1) ∧ (l1 < 16) ∧ (((T 2 l1) ≤ 0) → (∃ n1, n1 < n ∧ I45 n1 l1 l2 l3 T)) ∧ (¬ ((T 2 l1) ≤ 0) → CX_isBit g [mt, mi l1, mi 0] T (Qi fun v4 S3 => mI S3 → (-2147483648 ≤ v4 ∧ v4 ≤ 2147483647) → ((v4 ≠ 0) → (∃ n1, n1 < n ∧ I45 n1 l1 l2 l3 S3)) ∧ (¬ (v4 ≠ 0) → CX_isBit g [mt, mi l2, mi 0] S3 (Qi fun v6 S5 => mI S5 → (-2147483648 ≤ v6 ∧ v6 ≤ 2147483647) → ((v6 ≠ 0) → (∃ n1, n1 < n ∧ I45 n1 l1 l2 l3 S5)) ∧ (¬ (v6 ≠ 0) → CX_halve g [mt, mi l1] S5 (Qv fun S7 => mI S7 → CX_halve g [mt, mi l2] S7 (Qv fun S8 => mI S8 → (-2147483648 ≤ ((l3 + 1) : Int) ∧ (l3 + 1) ≤ 2147483647) ∧ (∃ n1, n1 < n ∧ I2 n1 l1 l2 (l3 + 1) S8)))))))))
    (h45 : ∀ (n : Nat) (l1 l2 l3 : Int) (T : mS), mI T → (-2147483648 ≤ l1 ∧ l1 ≤ 2147483647) → (-2147483648 ≤ l2 ∧ l2 ≤ 2147483647) → (-2147483648 ≤ l3 ∧ l3 ≤ 2147483647) → I45 n l1 l2 l3 T → (0 ≤ l1) ∧ (l1 < 16) ∧ (((T 2 l1) ≤ 0) → CX_copy g [mt, mi l1, mi l2] T (Qv fun S3 => mI S3 → (∃ n1, n1 < n ∧ I124 n1 l1 l3 0 S3))) ∧ (¬ ((T 2 l1) ≤ 0) → (∃ n1, n1 < n ∧ I54 n1 l1 l2 l3 T)))
    (h54 : ∀ (n : Nat) (l1 l2 l3 : Int) (T : mS), mI T → (-2147483648 ≤ l1 ∧ l1 ≤ 2147483647) → (-2147483648 ≤ l2 ∧ l2 ≤ 2147483647) → (-2147483648 ≤ l3 ∧ l3 ≤ 2147483647) → I54 n l1 l2 l3 T → CX_isBit g [mt, mi l1, mi 0] T (Qi fun v2 S1 => mI S1 → (-2147483648 ≤ v2 ∧ v2 ≤ 2147483647) → ((v2 ≠ 0) → (∃ n1, n1 < n ∧ I71 n1 l1 l2 l3 S1)) ∧ (¬ (v2 ≠ 0) → CX_halve g [mt, mi l1] S1 (Qv fun S3 => mI S3 → (∃ n1, n1 < n ∧ I54 n1 l1 l2 l3 S3)))))
    (h71 : ∀ (n : Nat) (l1 l2 l3 : Int) (T : mS), mI T → (-2147483648 ≤ l1 ∧ l1 ≤ 2147483647) → (-2147483648 ≤ l2 ∧ l2 ≤ 2147483647) → (-2147483648 ≤ l3 ∧ l3 ≤ 2147483647) → I71 n l1 l2 l3 T → CX_isBit g [mt, mi l2, mi 0] T (Qi fun v2 S1 => mI S1 → (-2147483648 ≤ v2 ∧ v2 ≤ 2147483647) → ((v2 ≠ 0) → CX_compare g [mt, mi l1, mi l2] S1 (Qi fun v4 S3 => mI S3 → (-2147483648 ≤ v4 ∧ v4 ≤ 2147483647) → ((v4 < 0) → CX_minus g [mt, mi l2, mi l1] S3 (Qv fun S5 => mI S5 → (∃ n1, n1 < n ∧ I45 n1 l1 l2 l3 S5))) ∧ (¬ (v4 < 0) → CX_minus g [mt, mi l1, mi l2] S3 (Qv fun S6 => mI S6 → (∃ n1, n1 < n ∧ I45 n1 l1 l2 l3 S6))))) ∧ (¬ (v2 ≠ 0) → CX_halve g [mt, mi l2] S1 (Qv fun S7 => mI S7 → (∃ n1, n1 < n ∧ I71 n1 l1 l2 l3 S7)))))
    (h124 : ∀ (n : Nat) (l1 l3 l4 : Int) (T : mS), mI T → (-2147483648 ≤ l1 ∧ l1 ≤ 2147483647) → (-2147483648 ≤ l3 ∧ l3 ≤ 2147483647) → (-2147483648 ≤ l4 ∧ l4 ≤ 2147483647) → I124 n l1 l3 l4 T → ((l3 ≤ l4) → Qp none T) ∧ (¬ (l3 ≤ l4) → CX_twice g [mt, mi l1, mi 0] T (Qv fun S1 => mI S1 → (-2147483648 ≤ ((l4 + 1) : Int) ∧ (l4 + 1) ≤ 2147483647) ∧ (∃ n1, n1 < n ∧ I124 n1 l1 l3 (l4 + 1) S1))))
    : CX_common g [mt, mi a1, mi a2] S Qp := by
  refine cm_y ⟨by decide, rfl⟩ (by simp [mcat]) (by simp) (fun n pc L st S => (pc = 2 ∧ ∃ (l1 : Int) (l2 : Int) (l3 : Int), L = [some mt, some (mi l1), some (mi l2), some (mi l3), none] ∧ st = [] ∧ I2 n l1 l2 l3 S) ∨ (pc = 45 ∧ ∃ (l1 : Int) (l2 : Int) (l3 : Int), L = [some mt, some (mi l1), some (mi l2), some (mi l3), none] ∧ st = [] ∧ I45 n l1 l2 l3 S) ∨ (pc = 54 ∧ ∃ (l1 : Int) (l2 : Int) (l3 : Int), L = [some mt, some (mi l1), some (mi l2), some (mi l3), none] ∧ st = [] ∧ I54 n l1 l2 l3 S) ∨ (pc = 71 ∧ ∃ (l1 : Int) (l2 : Int) (l3 : Int), L = [some mt, some (mi l1), some (mi l2), some (mi l3), none] ∧ st = [] ∧ I71 n l1 l2 l3 S) ∨ (pc = 124 ∧ ∃ (l1 : Int) (l3 : Int) (l4 : Int), L = [some mt, some (mi l1), none, some (mi l3), some (mi l4)] ∧ st = [] ∧ I124 n l1 l3 l4 S)) ?_ ?_
  · intro ha hS P Y Wk hIc
    have h := hE hS (mokI (ha (mi a1) (by simp))) (mokI (ha (mi a2) (by simp)))
    clear hE ha h2 h45 h54 h71 h124
    refine y_iconst 0 Y dX6_common_0 rfl ?_
    refine y_istore_n 1 Y [some mt, some (mi a1), some (mi a2), some (mi 0), none] dX6_common_1 rfl rfl ?_
    obtain ⟨n1, h⟩ := h
    exact Wk 2 _ [some mt, some (mi a1), some (mi a2), some (mi 0), none] _ _ ⟨rfl, ⟨rfl, ⟨rfl, ⟨rfl, trivial⟩⟩⟩⟩ (hIc n1 _ _ _ _ (Or.inl (⟨rfl, _, _, _, rfl, rfl, h⟩)))
  · intro n pc L st T hi hS hL P Y Wk hIc
    clear hE
    rcases hi with ⟨rfl, l1, l2, l3, rfl, rfl, hi⟩ | ⟨rfl, l1, l2, l3, rfl, rfl, hi⟩ | ⟨rfl, l1, l2, l3, rfl, rfl, hi⟩ | ⟨rfl, l1, l2, l3, rfl, rfl, hi⟩ | ⟨rfl, l1, l3, l4, rfl, rfl, hi⟩
    · have h := h2 n l1 l2 l3 T hS (hL 1 _ rfl) (hL 2 _ rfl) (hL 3 _ rfl) hi
      clear hL hi h2 h45 h54 h71 h124
      refine y_aload_n 2 Y dX6_common_2 rfl ?_
      refine y_geta 3 Y 2 dX6_common_3 rfl rfl ?_
      refine y_iload_n 6 Y dX6_common_6 rfl ?_
      obtain ⟨o1, h⟩ := h
      obtain ⟨o2, h⟩ := h
      refine y_iald 7 Y dX6_common_7 rfl rfl o1 o2 (fun _ => ?_)
      refine y_if 8 45 Y dX6_common_8 rfl rfl (fun c => ?_) (fun c => ?_)
      · replace h := h.1 c
        obtain ⟨n1, hn, h⟩ := h
        exact Wk 45 _ [some mt, some (mi l1), some (mi l2), some (mi l3), none] _ _ ⟨rfl, ⟨rfl, ⟨rfl, ⟨rfl, trivial⟩⟩⟩⟩ (hIc n1 _ _ _ _ hn (Or.inr (Or.inl (⟨rfl, _, _, _, rfl, rfl, h⟩))))
      · replace h := h.2 c
        refine y_aload_n 11 Y dX6_common_11 rfl ?_
        refine y_iload_n 12 Y dX6_common_12 rfl ?_
        refine y_iconst 13 Y dX6_common_13 rfl ?_
        refine y_call 14 Y (as := [mi l1, mi 0]) [] dX6_common_14 rfl rfl rfl rfl rfl h (fun r S3 hq hI hr => ?_)
        obtain ⟨v4, rfl, h⟩ := Qi_ok hq
        replace h := h hI (mokI (hr _ rfl))
        clear hq hr
        refine y_if 17 45 Y dX6_common_17 rfl rfl (fun c => ?_) (fun c => ?_)
        · replace h := h.1 c
          obtain ⟨n1, hn, h⟩ := h
          exact Wk 45 _ [some mt, some (mi l1), some (mi l2), some (mi l3), none] _ _ ⟨rfl, ⟨rfl, ⟨rfl, ⟨rfl, trivial⟩⟩⟩⟩ (hIc n1 _ _ _ _ hn (Or.inr (Or.inl (⟨rfl, _, _, _, rfl, rfl, h⟩))))
        · replace h := h.2 c
          refine y_aload_n 20 Y dX6_common_20 rfl ?_
          refine y_iload_n 21 Y dX6_common_21 rfl ?_
          refine y_iconst 22 Y dX6_common_22 rfl ?_
          refine y_call 23 Y (as := [mi l2, mi 0]) [] dX6_common_23 rfl rfl rfl rfl rfl h (fun r S5 hq hI hr => ?_)
          obtain ⟨v6, rfl, h⟩ := Qi_ok hq
          replace h := h hI (mokI (hr _ rfl))
          clear hq hr
          refine y_if 26 45 Y dX6_common_26 rfl rfl (fun c => ?_) (fun c => ?_)
          · replace h := h.1 c
            obtain ⟨n1, hn, h⟩ := h
            exact Wk 45 _ [some mt, some (mi l1), some (mi l2), some (mi l3), none] _ _ ⟨rfl, ⟨rfl, ⟨rfl, ⟨rfl, trivial⟩⟩⟩⟩ (hIc n1 _ _ _ _ hn (Or.inr (Or.inl (⟨rfl, _, _, _, rfl, rfl, h⟩))))
          · replace h := h.2 c
            refine y_aload_n 29 Y dX6_common_29 rfl ?_
            refine y_iload_n 30 Y dX6_common_30 rfl ?_
            refine y_call 31 Y (as := [mi l1]) [] dX6_common_31 rfl rfl rfl rfl rfl h (fun r S7 hq hI _ => ?_)
            obtain ⟨rfl, h⟩ := Qv_ok hq
            replace h := h hI
            clear hq
            refine y_aload_n 34 Y dX6_common_34 rfl ?_
            refine y_iload_n 35 Y dX6_common_35 rfl ?_
            refine y_call 36 Y (as := [mi l2]) [] dX6_common_36 rfl rfl rfl rfl rfl h (fun r S8 hq hI _ => ?_)
            obtain ⟨rfl, h⟩ := Qv_ok hq
            replace h := h hI
            clear hq
            obtain ⟨o9, h⟩ := h
            refine y_iinc 39 Y [some mt, some (mi l1), some (mi l2), some (mi (l3 + 1)), none] dX6_common_39 rfl rfl o9 ?_
            refine y_goto 42 2 Y dX6_common_42 rfl rfl ?_
            obtain ⟨n1, hn, h⟩ := h
            exact Wk 2 _ [some mt, some (mi l1), some (mi l2), some (mi (l3 + 1)), none] _ _ ⟨rfl, ⟨rfl, ⟨rfl, ⟨rfl, trivial⟩⟩⟩⟩ (hIc n1 _ _ _ _ hn (Or.inl (⟨rfl, _, _, _, rfl, rfl, h⟩)))
    · have h := h45 n l1 l2 l3 T hS (hL 1 _ rfl) (hL 2 _ rfl) (hL 3 _ rfl) hi
      clear hL hi h2 h45 h54 h71 h124
      refine y_aload_n 45 Y dX6_common_45 rfl ?_
      refine y_geta 46 Y 2 dX6_common_46 rfl rfl ?_
      refine y_iload_n 49 Y dX6_common_49 rfl ?_
      obtain ⟨o1, h⟩ := h
      obtain ⟨o2, h⟩ := h
      refine y_iald 50 Y dX6_common_50 rfl rfl o1 o2 (fun _ => ?_)
      refine y_if 51 115 Y dX6_common_51 rfl rfl (fun c => ?_) (fun c => ?_)
      · replace h := h.1 c
        refine y_aload_n 115 Y dX6_common_115 rfl ?_
        refine y_iload_n 116 Y dX6_common_116 rfl ?_
        refine y_iload_n 117 Y dX6_common_117 rfl ?_
        refine y_call 118 Y (as := [mi l1, mi l2]) [] dX6_common_118 rfl rfl rfl rfl rfl h (fun r S3 hq hI _ => ?_)
        obtain ⟨rfl, h⟩ := Qv_ok hq
        replace h := h hI
        clear hq
        refine y_iconst 121 Y dX6_common_121 rfl ?_
        refine y_istore 122 Y [some mt, some (mi l1), some (mi l2), some (mi l3), some (mi 0)] dX6_common_122 rfl rfl ?_
        obtain ⟨n1, hn, h⟩ := h
        exact Wk 124 _ [some mt, some (mi l1), none, some (mi l3), some (mi 0)] _ _ ⟨rfl, ⟨rfl, ⟨rfl, ⟨rfl, trivial⟩⟩⟩⟩ (hIc n1 _ _ _ _ hn (Or.inr (Or.inr (Or.inr (Or.inr ((⟨rfl, _, _, _, rfl, rfl, h⟩)))))))
      · replace h := h.2 c
        obtain ⟨n1, hn, h⟩ := h
        exact Wk 54 _ [some mt, some (mi l1), some (mi l2), some (mi l3), none] _ _ ⟨rfl, ⟨rfl, ⟨rfl, ⟨rfl, trivial⟩⟩⟩⟩ (hIc n1 _ _ _ _ hn (Or.inr (Or.inr (Or.inl (⟨rfl, _, _, _, rfl, rfl, h⟩)))))
    · have h := h54 n l1 l2 l3 T hS (hL 1 _ rfl) (hL 2 _ rfl) (hL 3 _ rfl) hi
      clear hL hi h2 h45 h54 h71 h124
      refine y_aload_n 54 Y dX6_common_54 rfl ?_
      refine y_iload_n 55 Y dX6_common_55 rfl ?_
      refine y_iconst 56 Y dX6_common_56 rfl ?_
      refine y_call 57 Y (as := [mi l1, mi 0]) [] dX6_common_57 rfl rfl rfl rfl rfl h (fun r S1 hq hI hr => ?_)
      obtain ⟨v2, rfl, h⟩ := Qi_ok hq
      replace h := h hI (mokI (hr _ rfl))
      clear hq hr
      refine y_if 60 71 Y dX6_common_60 rfl rfl (fun c => ?_) (fun c => ?_)
      · replace h := h.1 c
        obtain ⟨n1, hn, h⟩ := h
        exact Wk 71 _ [some mt, some (mi l1), some (mi l2), some (mi l3), none] _ _ ⟨rfl, ⟨rfl, ⟨rfl, ⟨rfl, trivial⟩⟩⟩⟩ (hIc n1 _ _ _ _ hn (Or.inr (Or.inr (Or.inr (Or.inl (⟨rfl, _, _, _, rfl, rfl, h⟩))))))
      · replace h := h.2 c
        refine y_aload_n 63 Y dX6_common_63 rfl ?_
        refine y_iload_n 64 Y dX6_common_64 rfl ?_
        refine y_call 65 Y (as := [mi l1]) [] dX6_common_65 rfl rfl rfl rfl rfl h (fun r S3 hq hI _ => ?_)
        obtain ⟨rfl, h⟩ := Qv_ok hq
        replace h := h hI
        clear hq
        refine y_goto 68 54 Y dX6_common_68 rfl rfl ?_
        obtain ⟨n1, hn, h⟩ := h
        exact Wk 54 _ [some mt, some (mi l1), some (mi l2), some (mi l3), none] _ _ ⟨rfl, ⟨rfl, ⟨rfl, ⟨rfl, trivial⟩⟩⟩⟩ (hIc n1 _ _ _ _ hn (Or.inr (Or.inr (Or.inl (⟨rfl, _, _, _, rfl, rfl, h⟩)))))
    · have h := h71 n l1 l2 l3 T hS (hL 1 _ rfl) (hL 2 _ rfl) (hL 3 _ rfl) hi
      clear hL hi h2 h45 h54 h71 h124
      refine y_aload_n 71 Y dX6_common_71 rfl ?_
      refine y_iload_n 72 Y dX6_common_72 rfl ?_
      refine y_iconst 73 Y dX6_common_73 rfl ?_
      refine y_call 74 Y (as := [mi l2, mi 0]) [] dX6_common_74 rfl rfl rfl rfl rfl h (fun r S1 hq hI hr => ?_)
      obtain ⟨v2, rfl, h⟩ := Qi_ok hq
      replace h := h hI (mokI (hr _ rfl))
      clear hq hr
      refine y_if 77 88 Y dX6_common_77 rfl rfl (fun c => ?_) (fun c => ?_)
      · replace h := h.1 c
        refine y_aload_n 88 Y dX6_common_88 rfl ?_
        refine y_iload_n 89 Y dX6_common_89 rfl ?_
        refine y_iload_n 90 Y dX6_common_90 rfl ?_
        refine y_call 91 Y (as := [mi l1, mi l2]) [] dX6_common_91 rfl rfl rfl rfl rfl h (fun r S3 hq hI hr => ?_)
        obtain ⟨v4, rfl, h⟩ := Qi_ok hq
        replace h := h hI (mokI (hr _ rfl))
        clear hq hr
        refine y_if 94 106 Y dX6_common_94 rfl rfl (fun c => ?_) (fun c => ?_)
        · replace h := h.1 c
          refine y_aload_n 106 Y dX6_common_106 rfl ?_
          refine y_iload_n 107 Y dX6_common_107 rfl ?_
          refine y_iload_n 108 Y dX6_common_108 rfl ?_
          refine y_call 109 Y (as := [mi l2, mi l1]) [] dX6_common_109 rfl rfl rfl rfl rfl h (fun r S5 hq hI _ => ?_)
          obtain ⟨rfl, h⟩ := Qv_ok hq
          replace h := h hI
          clear hq
          refine y_goto 112 45 Y dX6_common_112 rfl rfl ?_
          obtain ⟨n1, hn, h⟩ := h
          exact Wk 45 _ [some mt, some (mi l1), some (mi l2), some (mi l3), none] _ _ ⟨rfl, ⟨rfl, ⟨rfl, ⟨rfl, trivial⟩⟩⟩⟩ (hIc n1 _ _ _ _ hn (Or.inr (Or.inl (⟨rfl, _, _, _, rfl, rfl, h⟩))))
        · replace h := h.2 c
          refine y_aload_n 97 Y dX6_common_97 rfl ?_
          refine y_iload_n 98 Y dX6_common_98 rfl ?_
          refine y_iload_n 99 Y dX6_common_99 rfl ?_
          refine y_call 100 Y (as := [mi l1, mi l2]) [] dX6_common_100 rfl rfl rfl rfl rfl h (fun r S6 hq hI _ => ?_)
          obtain ⟨rfl, h⟩ := Qv_ok hq
          replace h := h hI
          clear hq
          refine y_goto 103 45 Y dX6_common_103 rfl rfl ?_
          obtain ⟨n1, hn, h⟩ := h
          exact Wk 45 _ [some mt, some (mi l1), some (mi l2), some (mi l3), none] _ _ ⟨rfl, ⟨rfl, ⟨rfl, ⟨rfl, trivial⟩⟩⟩⟩ (hIc n1 _ _ _ _ hn (Or.inr (Or.inl (⟨rfl, _, _, _, rfl, rfl, h⟩))))
      · replace h := h.2 c
        refine y_aload_n 80 Y dX6_common_80 rfl ?_
        refine y_iload_n 81 Y dX6_common_81 rfl ?_
        refine y_call 82 Y (as := [mi l2]) [] dX6_common_82 rfl rfl rfl rfl rfl h (fun r S7 hq hI _ => ?_)
        obtain ⟨rfl, h⟩ := Qv_ok hq
        replace h := h hI
        clear hq
        refine y_goto 85 71 Y dX6_common_85 rfl rfl ?_
        obtain ⟨n1, hn, h⟩ := h
        exact Wk 71 _ [some mt, some (mi l1), some (mi l2), some (mi l3), none] _ _ ⟨rfl, ⟨rfl, ⟨rfl, ⟨rfl, trivial⟩⟩⟩⟩ (hIc n1 _ _ _ _ hn (Or.inr (Or.inr (Or.inr (Or.inl (⟨rfl, _, _, _, rfl, rfl, h⟩))))))
    · have h := h124 n l1 l3 l4 T hS (hL 1 _ rfl) (hL 3 _ rfl) (hL 4 _ rfl) hi
      clear hL hi h2 h45 h54 h71 h124
      refine y_iload 124 Y dX6_common_124 rfl ?_
      refine y_iload_n 126 Y dX6_common_126 rfl ?_
      refine y_icmp 127 142 Y dX6_common_127 rfl rfl (fun c => ?_) (fun c => ?_)
      · replace h := h.1 c
        exact y_ret 142 Y dX6_common_142 rfl h
      · replace h := h.2 c
        refine y_aload_n 130 Y dX6_common_130 rfl ?_
        refine y_iload_n 131 Y dX6_common_131 rfl ?_
        refine y_iconst 132 Y dX6_common_132 rfl ?_
        refine y_call 133 Y (as := [mi l1, mi 0]) [] dX6_common_133 rfl rfl rfl rfl rfl h (fun r S1 hq hI _ => ?_)
        obtain ⟨rfl, h⟩ := Qv_ok hq
        replace h := h hI
        clear hq
        obtain ⟨o2, h⟩ := h
        refine y_iinc 136 Y [some mt, some (mi l1), none, some (mi l3), some (mi (l4 + 1))] dX6_common_136 rfl rfl o2 ?_
        refine y_goto 139 124 Y dX6_common_139 rfl rfl ?_
        obtain ⟨n1, hn, h⟩ := h
        exact Wk 124 _ [some mt, some (mi l1), none, some (mi l3), some (mi (l4 + 1))] _ _ ⟨rfl, ⟨rfl, ⟨rfl, ⟨rfl, trivial⟩⟩⟩⟩ (hIc n1 _ _ _ _ hn (Or.inr (Or.inr (Or.inr (Or.inr ((⟨rfl, _, _, _, rfl, rfl, h⟩)))))))
set_option maxHeartbeats 4000000 in
theorem of_define {g : mG} {S : mS} {a1 a2 : Int} {Qp : Option mV → mS → Prop} (I92 : Nat → Int → Int → Int → mS → Prop)
    (hE : mI S → (-2147483648 ≤ a1 ∧ a1 ≤ 2147483647) → (-2147483648 ≤ a2 ∧ a2 ≤ 2147483647) → CX_isName g [mi a1] S (Qi fun v2 S1 => mI S1 → (-2147483648 ≤ v2 ∧ v2 ≤ 2147483647) → ((v2 = 0) → CX_refused g [mt, mi 1, mi 0, mi 0] S1 (Qi fun v4 S3 => mI S3 → (-2147483648 ≤ v4 ∧ v4 ≤ 2147483647) → ((v4 = 0) → (-2147483648 ≤ ((a1 - 97) : Int) ∧ (a1 - 97) ≤ 2147483647) ∧ (0 ≤ (a1 - 97)) ∧ ((a1 - 97) < 26) ∧ (((S3 11 (a1 - 97)) ≠ 0) → CX_noteFunction g [mt, mi (a1 - 97)] S3 (Qv fun S8 => mI S8 → (∃ n1, I92 n1 (a1 - 97) (S3 12 (a1 - 97)) 0 (mup (mup S8 11 (a1 - 97) a2) 12 (a1 - 97) 0)))) ∧ (¬ ((S3 11 (a1 - 97)) ≠ 0) → CX_noteFunction g [mt, mi (a1 - 97)] S3 (Qv fun S9 => mI S9 → (∃ n1, I92 n1 (a1 - 97) (-1) 0 (mup (mup S9 11 (a1 - 97) a2) 12 (a1 - 97) 0))))) ∧ (¬ (v4 = 0) → Qp (some (mi 0)) S3))) ∧ (¬ (v2 = 0) → ((a1 = 105) → CX_refused g [mt, mi 1, mi 0, mi 0] S1 (Qi fun v11 S10 => mI S10 → (-2147483648 ≤ v11 ∧ v11 ≤ 2147483647) → ((v11 = 0) → (-2147483648 ≤ ((a1 - 97) : Int) ∧ (a1 - 97) ≤ 2147483647) ∧ (0 ≤ (a1 - 97)) ∧ ((a1 - 97) < 26) ∧ (((S10 11 (a1 - 97)) ≠ 0) → CX_noteFunction g [mt, mi (a1 - 97)] S10 (Qv fun S15 => mI S15 → (∃ n1, I92 n1 (a1 - 97) (S10 12 (a1 - 97)) 0 (mup (mup S15 11 (a1 - 97) a2) 12 (a1 - 97) 0)))) ∧ (¬ ((S10 11 (a1 - 97)) ≠ 0) → CX_noteFunction g [mt, mi (a1 - 97)] S10 (Qv fun S16 => mI S16 → (∃ n1, I92 n1 (a1 - 97) (-1) 0 (mup (mup S16 11 (a1 - 97) a2) 12 (a1 - 97) 0))))) ∧ (¬ (v11 = 0) → Qp (some (mi 0)) S10))) ∧ (¬ (a1 = 105) → ((a1 = 115) → CX_refused g [mt, mi 1, mi 0, mi 0] S1 (Qi fun v18 S17 => mI S17 → (-2147483648 ≤ v18 ∧ v18 ≤ 2147483647) → ((v18 = 0) → (-2147483648 ≤ ((a1 - 97) : Int) ∧ (a1 - 97) ≤ 2147483647) ∧ (0 ≤ (a1 - 97)) ∧ ((a1 - 97) < 26) ∧ (((S17 11 (a1 - 97)) ≠ 0) → CX_noteFunction g [mt, mi (a1 - 97)] S17 (Qv fun S22 => mI S22 → (∃ n1, I92 n1 (a1 - 97) (S17 12 (a1 - 97)) 0 (mup (mup S22 11 (a1 - 97) a2) 12 (a1 - 97) 0)))) ∧ (¬ ((S17 11 (a1 - 97)) ≠ 0) → CX_noteFunction g [mt, mi (a1 - 97)] S17 (Qv fun S23 => mI S23 → (∃ n1, I92 n1 (a1 - 97) (-1) 0 (mup (mup S23 11 (a1 - 97) a2) 12 (a1 - 97) 0))))) ∧ (¬ (v18 = 0) → Qp (some (mi 0)) S17))) ∧ (¬ (a1 = 115) → CX_in g [mi a2, mi 1, mi 3] S1 (Qi fun v25 S24 => mI S24 → (-2147483648 ≤ v25 ∧ v25 ≤ 2147483647) → ((v25 ≠ 0) → CX_refused g [mt, mi 0, mi 0, mi 0] S24 (Qi fun v27 S26 => mI S26 → (-2147483648 ≤ v27 ∧ v27 ≤ 2147483647) → ((v27 = 0) → (-2147483648 ≤ ((a1 - 97) : Int) ∧ (a1 - 97) ≤ 2147483647) ∧ (0 ≤ (a1 - 97)) ∧ ((a1 - 97) < 26) ∧ (((S26 11 (a1 - 97)) ≠ 0) → CX_noteFunction g [mt, mi (a1 - 97)] S26 (Qv fun S31 => mI S31 → (∃ n1, I92 n1 (a1 - 97) (S26 12 (a1 - 97)) 0 (mup (mup S31 11 (a1 - 97) a2) 12 (a1 - 97) 0)))) ∧ (¬ ((S26 11 (a1 - 97)) ≠ 0) → CX_noteFunction g [mt, mi (a1 - 97)] S26 (Qv fun S32 => mI S32 → (∃ n1, I92 n1 (a1 - 97) (-1) 0 (mup (mup S32 11 (a1 - 97) a2) 12 (a1 - 97) 0))))) ∧ (¬ (v27 = 0) → Qp (some (mi 0)) S26))) ∧ (¬ (v25 ≠ 0) → CX_refused g [mt, mi 1, mi 0, mi 0] S24 (Qi fun v34 S33 => mI S33 → (-2147483648 ≤ v34 ∧ v34 ≤ 2147483647) → ((v34 = 0) → (-2147483648 ≤ ((a1 - 97) : Int) ∧ (a1 - 97) ≤ 2147483647) ∧ (0 ≤ (a1 - 97)) ∧ ((a1 - 97) < 26) ∧ (((S33 11 (a1 - 97)) ≠ 0) → CX_noteFunction g [mt, mi (a1 - 97)] S33 (Qv fun S38 => mI S38 → (∃ n1, I92 n1 (a1 - 97) (S33 12 (a1 - 97)) 0 (mup (mup S38 11 (a1 - 97) a2) 12 (a1 - 97) 0)))) ∧ (¬ ((S33 11 (a1 - 97)) ≠ 0) → CX_noteFunction g [mt, mi (a1 - 97)] S33 (Qv fun S39 => mI S39 → (∃ n1, I92 n1 (a1 - 97) (-1) 0 (mup (mup S39 11 (a1 - 97) a2) 12 (a1 - 97) 0))))) ∧ (¬ (v34 = 0) → Qp (some (mi 0)) S33)))))))))
    (h92 : ∀ (n : Nat) (l3 l4 l5 : Int) (T : mS), mI T → (-2147483648 ≤ l3 ∧ l3 ≤ 2147483647) → (-2147483648 ≤ l4 ∧ l4 ≤ 2147483647) → (-2147483648 ≤ l5 ∧ l5 ≤ 2147483647) → I92 n l3 l4 l5 T → ((8 ≤ l5) → Qp (some (mi l4)) T) ∧ (¬ (8 ≤ l5) → (-2147483648 ≤ ((8 * l3) : Int) ∧ (8 * l3) ≤ 2147483647) ∧ (-2147483648 ≤ (((8 * l3) + l5) : Int) ∧ ((8 * l3) + l5) ≤ 2147483647) ∧ (0 ≤ ((8 * l3) + l5)) ∧ (((8 * l3) + l5) < 208) ∧ (-2147483648 ≤ ((l5 + 1) : Int) ∧ (l5 + 1) ≤ 2147483647) ∧ (∃ n1, n1 < n ∧ I92 n1 l3 l4 (l5 + 1) (mup T 13 ((8 * l3) + l5) 0))))
    : CX_define g [mt, mi a1, mi a2] S Qp := by
  refine cm_y ⟨by decide, rfl⟩ (by simp [mcat]) (by simp) (fun n pc L st S => (pc = 92 ∧ ∃ (l3 : Int) (l4 : Int) (l5 : Int), L = [some mt, none, none, some (mi l3), some (mi l4), some (mi l5)] ∧ st = [] ∧ I92 n l3 l4 l5 S)) ?_ ?_
  · intro ha hS P Y Wk hIc
    have h := hE hS (mokI (ha (mi a1) (by simp))) (mokI (ha (mi a2) (by simp)))
    clear hE ha h92
    refine y_aload_n 0 Y dX6_define_0 rfl ?_
    refine y_iload_n 1 Y dX6_define_1 rfl ?_
    refine y_calls 2 Y (as := [mi a1]) [mt] dX6_define_2 rfl rfl rfl rfl rfl h (fun r S1 hq hI hr => ?_)
    obtain ⟨v2, rfl, h⟩ := Qi_ok hq
    replace h := h hI (mokI (hr _ rfl))
    clear hq hr
    refine y_if 5 29 Y dX6_define_5 rfl rfl (fun c => ?_) (fun c => ?_)
    · replace h := h.1 c
      refine y_iconst 29 Y dX6_define_29 rfl ?_
      refine y_goto 30 34 Y dX6_define_30 rfl rfl ?_
      refine y_iconst 34 Y dX6_define_34 rfl ?_
      refine y_iconst 35 Y dX6_define_35 rfl ?_
      refine y_call 36 Y (as := [mi 1, mi 0, mi 0]) [] dX6_define_36 rfl rfl rfl rfl rfl h (fun r S3 hq hI hr => ?_)
      obtain ⟨v4, rfl, h⟩ := Qi_ok hq
      replace h := h hI (mokI (hr _ rfl))
      clear hq hr
      refine y_if 39 44 Y dX6_define_39 rfl rfl (fun c => ?_) (fun c => ?_)
      · replace h := h.1 c
        refine y_iload_n 44 Y dX6_define_44 rfl ?_
        refine y_bipush 45 Y dX6_define_45 rfl ?_
        obtain ⟨o5, h⟩ := h
        refine y_isub 47 Y dX6_define_47 o5 ?_
        refine y_istore_n 48 Y [some mt, some (mi a1), some (mi a2), some (mi (a1 - 97)), none, none] dX6_define_48 rfl rfl ?_
        refine y_aload_n 49 Y dX6_define_49 rfl ?_
        refine y_geta 50 Y 11 dX6_define_50 rfl rfl ?_
        refine y_iload_n 53 Y dX6_define_53 rfl ?_
        obtain ⟨o6, h⟩ := h
        obtain ⟨o7, h⟩ := h
        refine y_iald 54 Y dX6_define_54 rfl rfl o6 o7 (fun _ => ?_)
        refine y_if 55 62 Y dX6_define_55 rfl rfl (fun c => ?_) (fun c => ?_)
        · replace h := h.1 c
          refine y_aload_n 62 Y dX6_define_62 rfl ?_
          refine y_geta 63 Y 12 dX6_define_63 rfl rfl ?_
          refine y_iload_n 66 Y dX6_define_66 rfl ?_
          refine y_iald 67 Y dX6_define_67 rfl rfl o6 o7 (fun _ => ?_)
          refine y_istore 68 Y [some mt, some (mi a1), some (mi a2), some (mi (a1 - 97)), some (mi (S3 12 (a1 - 97))), none] dX6_define_68 rfl rfl ?_
          refine y_aload_n 70 Y dX6_define_70 rfl ?_
          refine y_iload_n 71 Y dX6_define_71 rfl ?_
          refine y_call 72 Y (as := [mi (a1 - 97)]) [] dX6_define_72 rfl rfl rfl rfl rfl h (fun r S8 hq hI _ => ?_)
          obtain ⟨rfl, h⟩ := Qv_ok hq
          replace h := h hI
          clear hq
          refine y_aload_n 75 Y dX6_define_75 rfl ?_
          refine y_geta 76 Y 11 dX6_define_76 rfl rfl ?_
          refine y_iload_n 79 Y dX6_define_79 rfl ?_
          refine y_iload_n 80 Y dX6_define_80 rfl ?_
          refine y_iast 81 Y dX6_define_81 rfl rfl o6 o7 ?_
          refine y_aload_n 82 Y dX6_define_82 rfl ?_
          refine y_geta 83 Y 12 dX6_define_83 rfl rfl ?_
          refine y_iload_n 86 Y dX6_define_86 rfl ?_
          refine y_iconst 87 Y dX6_define_87 rfl ?_
          refine y_iast 88 Y dX6_define_88 rfl rfl o6 o7 ?_
          refine y_iconst 89 Y dX6_define_89 rfl ?_
          refine y_istore 90 Y [some mt, some (mi a1), some (mi a2), some (mi (a1 - 97)), some (mi (S3 12 (a1 - 97))), some (mi 0)] dX6_define_90 rfl rfl ?_
          obtain ⟨n1, h⟩ := h
          exact Wk 92 _ [some mt, none, none, some (mi (a1 - 97)), some (mi (S3 12 (a1 - 97))), some (mi 0)] _ _ ⟨rfl, ⟨rfl, ⟨rfl, ⟨rfl, trivial⟩⟩⟩⟩ (hIc n1 _ _ _ _ ((⟨rfl, _, _, _, rfl, rfl, h⟩)))
        · replace h := h.2 c
          refine y_iconst 58 Y dX6_define_58 rfl ?_
          refine y_goto 59 68 Y dX6_define_59 rfl rfl ?_
          refine y_istore 68 Y [some mt, some (mi a1), some (mi a2), some (mi (a1 - 97)), some (mi (-1)), none] dX6_define_68 rfl rfl ?_
          refine y_aload_n 70 Y dX6_define_70 rfl ?_
          refine y_iload_n 71 Y dX6_define_71 rfl ?_
          refine y_call 72 Y (as := [mi (a1 - 97)]) [] dX6_define_72 rfl rfl rfl rfl rfl h (fun r S9 hq hI _ => ?_)
          obtain ⟨rfl, h⟩ := Qv_ok hq
          replace h := h hI
          clear hq
          refine y_aload_n 75 Y dX6_define_75 rfl ?_
          refine y_geta 76 Y 11 dX6_define_76 rfl rfl ?_
          refine y_iload_n 79 Y dX6_define_79 rfl ?_
          refine y_iload_n 80 Y dX6_define_80 rfl ?_
          refine y_iast 81 Y dX6_define_81 rfl rfl o6 o7 ?_
          refine y_aload_n 82 Y dX6_define_82 rfl ?_
          refine y_geta 83 Y 12 dX6_define_83 rfl rfl ?_
          refine y_iload_n 86 Y dX6_define_86 rfl ?_
          refine y_iconst 87 Y dX6_define_87 rfl ?_
          refine y_iast 88 Y dX6_define_88 rfl rfl o6 o7 ?_
          refine y_iconst 89 Y dX6_define_89 rfl ?_
          refine y_istore 90 Y [some mt, some (mi a1), some (mi a2), some (mi (a1 - 97)), some (mi (-1)), some (mi 0)] dX6_define_90 rfl rfl ?_
          obtain ⟨n1, h⟩ := h
          exact Wk 92 _ [some mt, none, none, some (mi (a1 - 97)), some (mi (-1)), some (mi 0)] _ _ ⟨rfl, ⟨rfl, ⟨rfl, ⟨rfl, trivial⟩⟩⟩⟩ (hIc n1 _ _ _ _ ((⟨rfl, _, _, _, rfl, rfl, h⟩)))
      · replace h := h.2 c
        refine y_iconst 42 Y dX6_define_42 rfl ?_
        exact y_iret 43 Y dX6_define_43 rfl h
    · replace h := h.2 c
      refine y_iload_n 8 Y dX6_define_8 rfl ?_
      refine y_bipush 9 Y dX6_define_9 rfl ?_
      refine y_icmp 11 29 Y dX6_define_11 rfl rfl (fun c => ?_) (fun c => ?_)
      · replace h := h.1 c
        refine y_iconst 29 Y dX6_define_29 rfl ?_
        refine y_goto 30 34 Y dX6_define_30 rfl rfl ?_
        refine y_iconst 34 Y dX6_define_34 rfl ?_
        refine y_iconst 35 Y dX6_define_35 rfl ?_
        refine y_call 36 Y (as := [mi 1, mi 0, mi 0]) [] dX6_define_36 rfl rfl rfl rfl rfl h (fun r S10 hq hI hr => ?_)
        obtain ⟨v11, rfl, h⟩ := Qi_ok hq
        replace h := h hI (mokI (hr _ rfl))
        clear hq hr
        refine y_if 39 44 Y dX6_define_39 rfl rfl (fun c => ?_) (fun c => ?_)
        · replace h := h.1 c
          refine y_iload_n 44 Y dX6_define_44 rfl ?_
          refine y_bipush 45 Y dX6_define_45 rfl ?_
          obtain ⟨o12, h⟩ := h
          refine y_isub 47 Y dX6_define_47 o12 ?_
          refine y_istore_n 48 Y [some mt, some (mi a1), some (mi a2), some (mi (a1 - 97)), none, none] dX6_define_48 rfl rfl ?_
          refine y_aload_n 49 Y dX6_define_49 rfl ?_
          refine y_geta 50 Y 11 dX6_define_50 rfl rfl ?_
          refine y_iload_n 53 Y dX6_define_53 rfl ?_
          obtain ⟨o13, h⟩ := h
          obtain ⟨o14, h⟩ := h
          refine y_iald 54 Y dX6_define_54 rfl rfl o13 o14 (fun _ => ?_)
          refine y_if 55 62 Y dX6_define_55 rfl rfl (fun c => ?_) (fun c => ?_)
          · replace h := h.1 c
            refine y_aload_n 62 Y dX6_define_62 rfl ?_
            refine y_geta 63 Y 12 dX6_define_63 rfl rfl ?_
            refine y_iload_n 66 Y dX6_define_66 rfl ?_
            refine y_iald 67 Y dX6_define_67 rfl rfl o13 o14 (fun _ => ?_)
            refine y_istore 68 Y [some mt, some (mi a1), some (mi a2), some (mi (a1 - 97)), some (mi (S10 12 (a1 - 97))), none] dX6_define_68 rfl rfl ?_
            refine y_aload_n 70 Y dX6_define_70 rfl ?_
            refine y_iload_n 71 Y dX6_define_71 rfl ?_
            refine y_call 72 Y (as := [mi (a1 - 97)]) [] dX6_define_72 rfl rfl rfl rfl rfl h (fun r S15 hq hI _ => ?_)
            obtain ⟨rfl, h⟩ := Qv_ok hq
            replace h := h hI
            clear hq
            refine y_aload_n 75 Y dX6_define_75 rfl ?_
            refine y_geta 76 Y 11 dX6_define_76 rfl rfl ?_
            refine y_iload_n 79 Y dX6_define_79 rfl ?_
            refine y_iload_n 80 Y dX6_define_80 rfl ?_
            refine y_iast 81 Y dX6_define_81 rfl rfl o13 o14 ?_
            refine y_aload_n 82 Y dX6_define_82 rfl ?_
            refine y_geta 83 Y 12 dX6_define_83 rfl rfl ?_
            refine y_iload_n 86 Y dX6_define_86 rfl ?_
            refine y_iconst 87 Y dX6_define_87 rfl ?_
            refine y_iast 88 Y dX6_define_88 rfl rfl o13 o14 ?_
            refine y_iconst 89 Y dX6_define_89 rfl ?_
            refine y_istore 90 Y [some mt, some (mi a1), some (mi a2), some (mi (a1 - 97)), some (mi (S10 12 (a1 - 97))), some (mi 0)] dX6_define_90 rfl rfl ?_
            obtain ⟨n1, h⟩ := h
            exact Wk 92 _ [some mt, none, none, some (mi (a1 - 97)), some (mi (S10 12 (a1 - 97))), some (mi 0)] _ _ ⟨rfl, ⟨rfl, ⟨rfl, ⟨rfl, trivial⟩⟩⟩⟩ (hIc n1 _ _ _ _ ((⟨rfl, _, _, _, rfl, rfl, h⟩)))
          · replace h := h.2 c
            refine y_iconst 58 Y dX6_define_58 rfl ?_
            refine y_goto 59 68 Y dX6_define_59 rfl rfl ?_
            refine y_istore 68 Y [some mt, some (mi a1), some (mi a2), some (mi (a1 - 97)), some (mi (-1)), none] dX6_define_68 rfl rfl ?_
            refine y_aload_n 70 Y dX6_define_70 rfl ?_
            refine y_iload_n 71 Y dX6_define_71 rfl ?_
            refine y_call 72 Y (as := [mi (a1 - 97)]) [] dX6_define_72 rfl rfl rfl rfl rfl h (fun r S16 hq hI _ => ?_)
            obtain ⟨rfl, h⟩ := Qv_ok hq
            replace h := h hI
            clear hq
            refine y_aload_n 75 Y dX6_define_75 rfl ?_
            refine y_geta 76 Y 11 dX6_define_76 rfl rfl ?_
            refine y_iload_n 79 Y dX6_define_79 rfl ?_
            refine y_iload_n 80 Y dX6_define_80 rfl ?_
            refine y_iast 81 Y dX6_define_81 rfl rfl o13 o14 ?_
            refine y_aload_n 82 Y dX6_define_82 rfl ?_
            refine y_geta 83 Y 12 dX6_define_83 rfl rfl ?_
            refine y_iload_n 86 Y dX6_define_86 rfl ?_
            refine y_iconst 87 Y dX6_define_87 rfl ?_
            refine y_iast 88 Y dX6_define_88 rfl rfl o13 o14 ?_
            refine y_iconst 89 Y dX6_define_89 rfl ?_
            refine y_istore 90 Y [some mt, some (mi a1), some (mi a2), some (mi (a1 - 97)), some (mi (-1)), some (mi 0)] dX6_define_90 rfl rfl ?_
            obtain ⟨n1, h⟩ := h
            exact Wk 92 _ [some mt, none, none, some (mi (a1 - 97)), some (mi (-1)), some (mi 0)] _ _ ⟨rfl, ⟨rfl, ⟨rfl, ⟨rfl, trivial⟩⟩⟩⟩ (hIc n1 _ _ _ _ ((⟨rfl, _, _, _, rfl, rfl, h⟩)))
        · replace h := h.2 c
          refine y_iconst 42 Y dX6_define_42 rfl ?_
          exact y_iret 43 Y dX6_define_43 rfl h
      · replace h := h.2 c
        refine y_iload_n 14 Y dX6_define_14 rfl ?_
        refine y_bipush 15 Y dX6_define_15 rfl ?_
        refine y_icmp 17 29 Y dX6_define_17 rfl rfl (fun c => ?_) (fun c => ?_)
        · replace h := h.1 c
          refine y_iconst 29 Y dX6_define_29 rfl ?_
          refine y_goto 30 34 Y dX6_define_30 rfl rfl ?_
          refine y_iconst 34 Y dX6_define_34 rfl ?_
          refine y_iconst 35 Y dX6_define_35 rfl ?_
          refine y_call 36 Y (as := [mi 1, mi 0, mi 0]) [] dX6_define_36 rfl rfl rfl rfl rfl h (fun r S17 hq hI hr => ?_)
          obtain ⟨v18, rfl, h⟩ := Qi_ok hq
          replace h := h hI (mokI (hr _ rfl))
          clear hq hr
          refine y_if 39 44 Y dX6_define_39 rfl rfl (fun c => ?_) (fun c => ?_)
          · replace h := h.1 c
            refine y_iload_n 44 Y dX6_define_44 rfl ?_
            refine y_bipush 45 Y dX6_define_45 rfl ?_
            obtain ⟨o19, h⟩ := h
            refine y_isub 47 Y dX6_define_47 o19 ?_
            refine y_istore_n 48 Y [some mt, some (mi a1), some (mi a2), some (mi (a1 - 97)), none, none] dX6_define_48 rfl rfl ?_
            refine y_aload_n 49 Y dX6_define_49 rfl ?_
            refine y_geta 50 Y 11 dX6_define_50 rfl rfl ?_
            refine y_iload_n 53 Y dX6_define_53 rfl ?_
            obtain ⟨o20, h⟩ := h
            obtain ⟨o21, h⟩ := h
            refine y_iald 54 Y dX6_define_54 rfl rfl o20 o21 (fun _ => ?_)
            refine y_if 55 62 Y dX6_define_55 rfl rfl (fun c => ?_) (fun c => ?_)
            · replace h := h.1 c
              refine y_aload_n 62 Y dX6_define_62 rfl ?_
              refine y_geta 63 Y 12 dX6_define_63 rfl rfl ?_
              refine y_iload_n 66 Y dX6_define_66 rfl ?_
              refine y_iald 67 Y dX6_define_67 rfl rfl o20 o21 (fun _ => ?_)
              refine y_istore 68 Y [some mt, some (mi a1), some (mi a2), some (mi (a1 - 97)), some (mi (S17 12 (a1 - 97))), none] dX6_define_68 rfl rfl ?_
              refine y_aload_n 70 Y dX6_define_70 rfl ?_
              refine y_iload_n 71 Y dX6_define_71 rfl ?_
              refine y_call 72 Y (as := [mi (a1 - 97)]) [] dX6_define_72 rfl rfl rfl rfl rfl h (fun r S22 hq hI _ => ?_)
              obtain ⟨rfl, h⟩ := Qv_ok hq
              replace h := h hI
              clear hq
              refine y_aload_n 75 Y dX6_define_75 rfl ?_
              refine y_geta 76 Y 11 dX6_define_76 rfl rfl ?_
              refine y_iload_n 79 Y dX6_define_79 rfl ?_
              refine y_iload_n 80 Y dX6_define_80 rfl ?_
              refine y_iast 81 Y dX6_define_81 rfl rfl o20 o21 ?_
              refine y_aload_n 82 Y dX6_define_82 rfl ?_
              refine y_geta 83 Y 12 dX6_define_83 rfl rfl ?_
              refine y_iload_n 86 Y dX6_define_86 rfl ?_
              refine y_iconst 87 Y dX6_define_87 rfl ?_
              refine y_iast 88 Y dX6_define_88 rfl rfl o20 o21 ?_
              refine y_iconst 89 Y dX6_define_89 rfl ?_
              refine y_istore 90 Y [some mt, some (mi a1), some (mi a2), some (mi (a1 - 97)), some (mi (S17 12 (a1 - 97))), some (mi 0)] dX6_define_90 rfl rfl ?_
              obtain ⟨n1, h⟩ := h
              exact Wk 92 _ [some mt, none, none, some (mi (a1 - 97)), some (mi (S17 12 (a1 - 97))), some (mi 0)] _ _ ⟨rfl, ⟨rfl, ⟨rfl, ⟨rfl, trivial⟩⟩⟩⟩ (hIc n1 _ _ _ _ ((⟨rfl, _, _, _, rfl, rfl, h⟩)))
            · replace h := h.2 c
              refine y_iconst 58 Y dX6_define_58 rfl ?_
              refine y_goto 59 68 Y dX6_define_59 rfl rfl ?_
              refine y_istore 68 Y [some mt, some (mi a1), some (mi a2), some (mi (a1 - 97)), some (mi (-1)), none] dX6_define_68 rfl rfl ?_
              refine y_aload_n 70 Y dX6_define_70 rfl ?_
              refine y_iload_n 71 Y dX6_define_71 rfl ?_
              refine y_call 72 Y (as := [mi (a1 - 97)]) [] dX6_define_72 rfl rfl rfl rfl rfl h (fun r S23 hq hI _ => ?_)
              obtain ⟨rfl, h⟩ := Qv_ok hq
              replace h := h hI
              clear hq
              refine y_aload_n 75 Y dX6_define_75 rfl ?_
              refine y_geta 76 Y 11 dX6_define_76 rfl rfl ?_
              refine y_iload_n 79 Y dX6_define_79 rfl ?_
              refine y_iload_n 80 Y dX6_define_80 rfl ?_
              refine y_iast 81 Y dX6_define_81 rfl rfl o20 o21 ?_
              refine y_aload_n 82 Y dX6_define_82 rfl ?_
              refine y_geta 83 Y 12 dX6_define_83 rfl rfl ?_
              refine y_iload_n 86 Y dX6_define_86 rfl ?_
              refine y_iconst 87 Y dX6_define_87 rfl ?_
              refine y_iast 88 Y dX6_define_88 rfl rfl o20 o21 ?_
              refine y_iconst 89 Y dX6_define_89 rfl ?_
              refine y_istore 90 Y [some mt, some (mi a1), some (mi a2), some (mi (a1 - 97)), some (mi (-1)), some (mi 0)] dX6_define_90 rfl rfl ?_
              obtain ⟨n1, h⟩ := h
              exact Wk 92 _ [some mt, none, none, some (mi (a1 - 97)), some (mi (-1)), some (mi 0)] _ _ ⟨rfl, ⟨rfl, ⟨rfl, ⟨rfl, trivial⟩⟩⟩⟩ (hIc n1 _ _ _ _ ((⟨rfl, _, _, _, rfl, rfl, h⟩)))
          · replace h := h.2 c
            refine y_iconst 42 Y dX6_define_42 rfl ?_
            exact y_iret 43 Y dX6_define_43 rfl h
        · replace h := h.2 c
          refine y_iload_n 20 Y dX6_define_20 rfl ?_
          refine y_iconst 21 Y dX6_define_21 rfl ?_
          refine y_iconst 22 Y dX6_define_22 rfl ?_
          refine y_calls 23 Y (as := [mi a2, mi 1, mi 3]) [mt] dX6_define_23 rfl rfl rfl rfl rfl h (fun r S24 hq hI hr => ?_)
          obtain ⟨v25, rfl, h⟩ := Qi_ok hq
          replace h := h hI (mokI (hr _ rfl))
          clear hq hr
          refine y_if 26 33 Y dX6_define_26 rfl rfl (fun c => ?_) (fun c => ?_)
          · replace h := h.1 c
            refine y_iconst 33 Y dX6_define_33 rfl ?_
            refine y_iconst 34 Y dX6_define_34 rfl ?_
            refine y_iconst 35 Y dX6_define_35 rfl ?_
            refine y_call 36 Y (as := [mi 0, mi 0, mi 0]) [] dX6_define_36 rfl rfl rfl rfl rfl h (fun r S26 hq hI hr => ?_)
            obtain ⟨v27, rfl, h⟩ := Qi_ok hq
            replace h := h hI (mokI (hr _ rfl))
            clear hq hr
            refine y_if 39 44 Y dX6_define_39 rfl rfl (fun c => ?_) (fun c => ?_)
            · replace h := h.1 c
              refine y_iload_n 44 Y dX6_define_44 rfl ?_
              refine y_bipush 45 Y dX6_define_45 rfl ?_
              obtain ⟨o28, h⟩ := h
              refine y_isub 47 Y dX6_define_47 o28 ?_
              refine y_istore_n 48 Y [some mt, some (mi a1), some (mi a2), some (mi (a1 - 97)), none, none] dX6_define_48 rfl rfl ?_
              refine y_aload_n 49 Y dX6_define_49 rfl ?_
              refine y_geta 50 Y 11 dX6_define_50 rfl rfl ?_
              refine y_iload_n 53 Y dX6_define_53 rfl ?_
              obtain ⟨o29, h⟩ := h
              obtain ⟨o30, h⟩ := h
              refine y_iald 54 Y dX6_define_54 rfl rfl o29 o30 (fun _ => ?_)
              refine y_if 55 62 Y dX6_define_55 rfl rfl (fun c => ?_) (fun c => ?_)
              · replace h := h.1 c
                refine y_aload_n 62 Y dX6_define_62 rfl ?_
                refine y_geta 63 Y 12 dX6_define_63 rfl rfl ?_
                refine y_iload_n 66 Y dX6_define_66 rfl ?_
                refine y_iald 67 Y dX6_define_67 rfl rfl o29 o30 (fun _ => ?_)
                refine y_istore 68 Y [some mt, some (mi a1), some (mi a2), some (mi (a1 - 97)), some (mi (S26 12 (a1 - 97))), none] dX6_define_68 rfl rfl ?_
                refine y_aload_n 70 Y dX6_define_70 rfl ?_
                refine y_iload_n 71 Y dX6_define_71 rfl ?_
                refine y_call 72 Y (as := [mi (a1 - 97)]) [] dX6_define_72 rfl rfl rfl rfl rfl h (fun r S31 hq hI _ => ?_)
                obtain ⟨rfl, h⟩ := Qv_ok hq
                replace h := h hI
                clear hq
                refine y_aload_n 75 Y dX6_define_75 rfl ?_
                refine y_geta 76 Y 11 dX6_define_76 rfl rfl ?_
                refine y_iload_n 79 Y dX6_define_79 rfl ?_
                refine y_iload_n 80 Y dX6_define_80 rfl ?_
                refine y_iast 81 Y dX6_define_81 rfl rfl o29 o30 ?_
                refine y_aload_n 82 Y dX6_define_82 rfl ?_
                refine y_geta 83 Y 12 dX6_define_83 rfl rfl ?_
                refine y_iload_n 86 Y dX6_define_86 rfl ?_
                refine y_iconst 87 Y dX6_define_87 rfl ?_
                refine y_iast 88 Y dX6_define_88 rfl rfl o29 o30 ?_
                refine y_iconst 89 Y dX6_define_89 rfl ?_
                refine y_istore 90 Y [some mt, some (mi a1), some (mi a2), some (mi (a1 - 97)), some (mi (S26 12 (a1 - 97))), some (mi 0)] dX6_define_90 rfl rfl ?_
                obtain ⟨n1, h⟩ := h
                exact Wk 92 _ [some mt, none, none, some (mi (a1 - 97)), some (mi (S26 12 (a1 - 97))), some (mi 0)] _ _ ⟨rfl, ⟨rfl, ⟨rfl, ⟨rfl, trivial⟩⟩⟩⟩ (hIc n1 _ _ _ _ ((⟨rfl, _, _, _, rfl, rfl, h⟩)))
              · replace h := h.2 c
                refine y_iconst 58 Y dX6_define_58 rfl ?_
                refine y_goto 59 68 Y dX6_define_59 rfl rfl ?_
                refine y_istore 68 Y [some mt, some (mi a1), some (mi a2), some (mi (a1 - 97)), some (mi (-1)), none] dX6_define_68 rfl rfl ?_
                refine y_aload_n 70 Y dX6_define_70 rfl ?_
                refine y_iload_n 71 Y dX6_define_71 rfl ?_
                refine y_call 72 Y (as := [mi (a1 - 97)]) [] dX6_define_72 rfl rfl rfl rfl rfl h (fun r S32 hq hI _ => ?_)
                obtain ⟨rfl, h⟩ := Qv_ok hq
                replace h := h hI
                clear hq
                refine y_aload_n 75 Y dX6_define_75 rfl ?_
                refine y_geta 76 Y 11 dX6_define_76 rfl rfl ?_
                refine y_iload_n 79 Y dX6_define_79 rfl ?_
                refine y_iload_n 80 Y dX6_define_80 rfl ?_
                refine y_iast 81 Y dX6_define_81 rfl rfl o29 o30 ?_
                refine y_aload_n 82 Y dX6_define_82 rfl ?_
                refine y_geta 83 Y 12 dX6_define_83 rfl rfl ?_
                refine y_iload_n 86 Y dX6_define_86 rfl ?_
                refine y_iconst 87 Y dX6_define_87 rfl ?_
                refine y_iast 88 Y dX6_define_88 rfl rfl o29 o30 ?_
                refine y_iconst 89 Y dX6_define_89 rfl ?_
                refine y_istore 90 Y [some mt, some (mi a1), some (mi a2), some (mi (a1 - 97)), some (mi (-1)), some (mi 0)] dX6_define_90 rfl rfl ?_
                obtain ⟨n1, h⟩ := h
                exact Wk 92 _ [some mt, none, none, some (mi (a1 - 97)), some (mi (-1)), some (mi 0)] _ _ ⟨rfl, ⟨rfl, ⟨rfl, ⟨rfl, trivial⟩⟩⟩⟩ (hIc n1 _ _ _ _ ((⟨rfl, _, _, _, rfl, rfl, h⟩)))
            · replace h := h.2 c
              refine y_iconst 42 Y dX6_define_42 rfl ?_
              exact y_iret 43 Y dX6_define_43 rfl h
          · replace h := h.2 c
            refine y_iconst 29 Y dX6_define_29 rfl ?_
            refine y_goto 30 34 Y dX6_define_30 rfl rfl ?_
            refine y_iconst 34 Y dX6_define_34 rfl ?_
            refine y_iconst 35 Y dX6_define_35 rfl ?_
            refine y_call 36 Y (as := [mi 1, mi 0, mi 0]) [] dX6_define_36 rfl rfl rfl rfl rfl h (fun r S33 hq hI hr => ?_)
            obtain ⟨v34, rfl, h⟩ := Qi_ok hq
            replace h := h hI (mokI (hr _ rfl))
            clear hq hr
            refine y_if 39 44 Y dX6_define_39 rfl rfl (fun c => ?_) (fun c => ?_)
            · replace h := h.1 c
              refine y_iload_n 44 Y dX6_define_44 rfl ?_
              refine y_bipush 45 Y dX6_define_45 rfl ?_
              obtain ⟨o35, h⟩ := h
              refine y_isub 47 Y dX6_define_47 o35 ?_
              refine y_istore_n 48 Y [some mt, some (mi a1), some (mi a2), some (mi (a1 - 97)), none, none] dX6_define_48 rfl rfl ?_
              refine y_aload_n 49 Y dX6_define_49 rfl ?_
              refine y_geta 50 Y 11 dX6_define_50 rfl rfl ?_
              refine y_iload_n 53 Y dX6_define_53 rfl ?_
              obtain ⟨o36, h⟩ := h
              obtain ⟨o37, h⟩ := h
              refine y_iald 54 Y dX6_define_54 rfl rfl o36 o37 (fun _ => ?_)
              refine y_if 55 62 Y dX6_define_55 rfl rfl (fun c => ?_) (fun c => ?_)
              · replace h := h.1 c
                refine y_aload_n 62 Y dX6_define_62 rfl ?_
                refine y_geta 63 Y 12 dX6_define_63 rfl rfl ?_
                refine y_iload_n 66 Y dX6_define_66 rfl ?_
                refine y_iald 67 Y dX6_define_67 rfl rfl o36 o37 (fun _ => ?_)
                refine y_istore 68 Y [some mt, some (mi a1), some (mi a2), some (mi (a1 - 97)), some (mi (S33 12 (a1 - 97))), none] dX6_define_68 rfl rfl ?_
                refine y_aload_n 70 Y dX6_define_70 rfl ?_
                refine y_iload_n 71 Y dX6_define_71 rfl ?_
                refine y_call 72 Y (as := [mi (a1 - 97)]) [] dX6_define_72 rfl rfl rfl rfl rfl h (fun r S38 hq hI _ => ?_)
                obtain ⟨rfl, h⟩ := Qv_ok hq
                replace h := h hI
                clear hq
                refine y_aload_n 75 Y dX6_define_75 rfl ?_
                refine y_geta 76 Y 11 dX6_define_76 rfl rfl ?_
                refine y_iload_n 79 Y dX6_define_79 rfl ?_
                refine y_iload_n 80 Y dX6_define_80 rfl ?_
                refine y_iast 81 Y dX6_define_81 rfl rfl o36 o37 ?_
                refine y_aload_n 82 Y dX6_define_82 rfl ?_
                refine y_geta 83 Y 12 dX6_define_83 rfl rfl ?_
                refine y_iload_n 86 Y dX6_define_86 rfl ?_
                refine y_iconst 87 Y dX6_define_87 rfl ?_
                refine y_iast 88 Y dX6_define_88 rfl rfl o36 o37 ?_
                refine y_iconst 89 Y dX6_define_89 rfl ?_
                refine y_istore 90 Y [some mt, some (mi a1), some (mi a2), some (mi (a1 - 97)), some (mi (S33 12 (a1 - 97))), some (mi 0)] dX6_define_90 rfl rfl ?_
                obtain ⟨n1, h⟩ := h
                exact Wk 92 _ [some mt, none, none, some (mi (a1 - 97)), some (mi (S33 12 (a1 - 97))), some (mi 0)] _ _ ⟨rfl, ⟨rfl, ⟨rfl, ⟨rfl, trivial⟩⟩⟩⟩ (hIc n1 _ _ _ _ ((⟨rfl, _, _, _, rfl, rfl, h⟩)))
              · replace h := h.2 c
                refine y_iconst 58 Y dX6_define_58 rfl ?_
                refine y_goto 59 68 Y dX6_define_59 rfl rfl ?_
                refine y_istore 68 Y [some mt, some (mi a1), some (mi a2), some (mi (a1 - 97)), some (mi (-1)), none] dX6_define_68 rfl rfl ?_
                refine y_aload_n 70 Y dX6_define_70 rfl ?_
                refine y_iload_n 71 Y dX6_define_71 rfl ?_
                refine y_call 72 Y (as := [mi (a1 - 97)]) [] dX6_define_72 rfl rfl rfl rfl rfl h (fun r S39 hq hI _ => ?_)
                obtain ⟨rfl, h⟩ := Qv_ok hq
                replace h := h hI
                clear hq
                refine y_aload_n 75 Y dX6_define_75 rfl ?_
                refine y_geta 76 Y 11 dX6_define_76 rfl rfl ?_
                refine y_iload_n 79 Y dX6_define_79 rfl ?_
                refine y_iload_n 80 Y dX6_define_80 rfl ?_
                refine y_iast 81 Y dX6_define_81 rfl rfl o36 o37 ?_
                refine y_aload_n 82 Y dX6_define_82 rfl ?_
                refine y_geta 83 Y 12 dX6_define_83 rfl rfl ?_
                refine y_iload_n 86 Y dX6_define_86 rfl ?_
                refine y_iconst 87 Y dX6_define_87 rfl ?_
                refine y_iast 88 Y dX6_define_88 rfl rfl o36 o37 ?_
                refine y_iconst 89 Y dX6_define_89 rfl ?_
                refine y_istore 90 Y [some mt, some (mi a1), some (mi a2), some (mi (a1 - 97)), some (mi (-1)), some (mi 0)] dX6_define_90 rfl rfl ?_
                obtain ⟨n1, h⟩ := h
                exact Wk 92 _ [some mt, none, none, some (mi (a1 - 97)), some (mi (-1)), some (mi 0)] _ _ ⟨rfl, ⟨rfl, ⟨rfl, ⟨rfl, trivial⟩⟩⟩⟩ (hIc n1 _ _ _ _ ((⟨rfl, _, _, _, rfl, rfl, h⟩)))
            · replace h := h.2 c
              refine y_iconst 42 Y dX6_define_42 rfl ?_
              exact y_iret 43 Y dX6_define_43 rfl h
  · intro n pc L st T hi hS hL P Y Wk hIc
    clear hE
    rcases hi with ⟨rfl, l3, l4, l5, rfl, rfl, hi⟩
    · have h := h92 n l3 l4 l5 T hS (hL 3 _ rfl) (hL 4 _ rfl) (hL 5 _ rfl) hi
      clear hL hi h92
      refine y_iload 92 Y dX6_define_92 rfl ?_
      refine y_bipush 94 Y dX6_define_94 rfl ?_
      refine y_icmp 96 118 Y dX6_define_96 rfl rfl (fun c => ?_) (fun c => ?_)
      · replace h := h.1 c
        refine y_iload 118 Y dX6_define_118 rfl ?_
        exact y_iret 120 Y dX6_define_120 rfl h
      · replace h := h.2 c
        refine y_aload_n 99 Y dX6_define_99 rfl ?_
        refine y_geta 100 Y 13 dX6_define_100 rfl rfl ?_
        refine y_bipush 103 Y dX6_define_103 rfl ?_
        refine y_iload_n 105 Y dX6_define_105 rfl ?_
        obtain ⟨o1, h⟩ := h
        refine y_imul 106 Y dX6_define_106 o1 ?_
        refine y_iload 107 Y dX6_define_107 rfl ?_
        obtain ⟨o2, h⟩ := h
        refine y_iadd 109 Y dX6_define_109 o2 ?_
        refine y_iconst 110 Y dX6_define_110 rfl ?_
        obtain ⟨o3, h⟩ := h
        obtain ⟨o4, h⟩ := h
        refine y_iast 111 Y dX6_define_111 rfl rfl o3 o4 ?_
        obtain ⟨o5, h⟩ := h
        refine y_iinc 112 Y [some mt, none, none, some (mi l3), some (mi l4), some (mi (l5 + 1))] dX6_define_112 rfl rfl o5 ?_
        refine y_goto 115 92 Y dX6_define_115 rfl rfl ?_
        obtain ⟨n1, hn, h⟩ := h
        exact Wk 92 _ [some mt, none, none, some (mi l3), some (mi l4), some (mi (l5 + 1))] _ _ ⟨rfl, ⟨rfl, ⟨rfl, ⟨rfl, trivial⟩⟩⟩⟩ (hIc n1 _ _ _ _ hn ((⟨rfl, _, _, _, rfl, rfl, h⟩)))
set_option maxHeartbeats 4000000 in
theorem of_divide {g : mG} {S : mS} {a1 a2 a3 a4 : Int} {Qp : Option mV → mS → Prop} (I23 : Nat → Int → Int → Int → Int → Int → mS → Prop)
    (hE : mI S → (-2147483648 ≤ a1 ∧ a1 ≤ 2147483647) → (-2147483648 ≤ a2 ∧ a2 ≤ 2147483647) → (-2147483648 ≤ a3 ∧ a3 ≤ 2147483647) → (-2147483648 ≤ a4 ∧ a4 ≤ 2147483647) → (0 ≤ a1) ∧ (a1 < 16) ∧ (0 ≤ a2) ∧ (a2 < 16) ∧ CX_bits g [mt, mi a3] (mup (mup S 2 a1 0) 2 a2 0) (Qi fun v6 S5 => mI S5 → (-2147483648 ≤ v6 ∧ v6 ≤ 2147483647) → (-2147483648 ≤ ((v6 - 1) : Int) ∧ (v6 - 1) ≤ 2147483647) ∧ (∃ n1, I23 n1 a1 a2 a3 a4 (v6 - 1) S5)))
    (h23 : ∀ (n : Nat) (l1 l2 l3 l4 l5 : Int) (T : mS), mI T → (-2147483648 ≤ l1 ∧ l1 ≤ 2147483647) → (-2147483648 ≤ l2 ∧ l2 ≤ 2147483647) → (-2147483648 ≤ l3 ∧ l3 ≤ 2147483647) → (-2147483648 ≤ l4 ∧ l4 ≤ 2147483647) → (-2147483648 ≤ l5 ∧ l5 ≤ 2147483647) → I23 n l1 l2 l3 l4 l5 T → ((l5 < 0) → Qp none T) ∧ (¬ (l5 < 0) → CX_isBit g [mt, mi l3, mi l5] T (Qi fun v2 S1 => mI S1 → (-2147483648 ≤ v2 ∧ v2 ≤ 2147483647) → ((v2 = 0) → CX_twice g [mt, mi l2, mi 0] S1 (Qv fun S3 => mI S3 → CX_compare g [mt, mi l2, mi l4] S3 (Qi fun v5 S4 => mI S4 → (-2147483648 ≤ v5 ∧ v5 ≤ 2147483647) → ((v5 < 0) → CX_twice g [mt, mi l1, mi 0] S4 (Qv fun S6 => mI S6 → (-2147483648 ≤ ((l5 + (-1)) : Int) ∧ (l5 + (-1)) ≤ 2147483647) ∧ (∃ n1, n1 < n ∧ I23 n1 l1 l2 l3 l4 (l5 + (-1)) S6))) ∧ (¬ (v5 < 0) → CX_minus g [mt, mi l2, mi l4] S4 (Qv fun S8 => mI S8 → CX_twice g [mt, mi l1, mi 1] S8 (Qv fun S9 => mI S9 → (-2147483648 ≤ ((l5 + (-1)) : Int) ∧ (l5 + (-1)) ≤ 2147483647) ∧ (∃ n1, n1 < n ∧ I23 n1 l1 l2 l3 l4 (l5 + (-1)) S9))))))) ∧ (¬ (v2 = 0) → CX_twice g [mt, mi l2, mi 1] S1 (Qv fun S11 => mI S11 → CX_compare g [mt, mi l2, mi l4] S11 (Qi fun v13 S12 => mI S12 → (-2147483648 ≤ v13 ∧ v13 ≤ 2147483647) → ((v13 < 0) → CX_twice g [mt, mi l1, mi 0] S12 (Qv fun S14 => mI S14 → (-2147483648 ≤ ((l5 + (-1)) : Int) ∧ (l5 + (-1)) ≤ 2147483647) ∧ (∃ n1, n1 < n ∧ I23 n1 l1 l2 l3 l4 (l5 + (-1)) S14))) ∧ (¬ (v13 < 0) → CX_minus g [mt, mi l2, mi l4] S12 (Qv fun S16 => mI S16 → CX_twice g [mt, mi l1, mi 1] S16 (Qv fun S17 => mI S17 → (-2147483648 ≤ ((l5 + (-1)) : Int) ∧ (l5 + (-1)) ≤ 2147483647) ∧ (∃ n1, n1 < n ∧ I23 n1 l1 l2 l3 l4 (l5 + (-1)) S17))))))))))
    : CX_divide g [mt, mi a1, mi a2, mi a3, mi a4] S Qp := by
  refine cm_y ⟨by decide, rfl⟩ (by simp [mcat]) (by simp) (fun n pc L st S => (pc = 23 ∧ ∃ (l1 : Int) (l2 : Int) (l3 : Int) (l4 : Int) (l5 : Int), L = [some mt, some (mi l1), some (mi l2), some (mi l3), some (mi l4), some (mi l5), none] ∧ st = [] ∧ I23 n l1 l2 l3 l4 l5 S)) ?_ ?_
  · intro ha hS P Y Wk hIc
    have h := hE hS (mokI (ha (mi a1) (by simp))) (mokI (ha (mi a2) (by simp))) (mokI (ha (mi a3) (by simp))) (mokI (ha (mi a4) (by simp)))
    clear hE ha h23
    refine y_aload_n 0 Y dX6_divide_0 rfl ?_
    refine y_geta 1 Y 2 dX6_divide_1 rfl rfl ?_
    refine y_iload_n 4 Y dX6_divide_4 rfl ?_
    refine y_iconst 5 Y dX6_divide_5 rfl ?_
    obtain ⟨o1, h⟩ := h
    obtain ⟨o2, h⟩ := h
    refine y_iast 6 Y dX6_divide_6 rfl rfl o1 o2 ?_
    refine y_aload_n 7 Y dX6_divide_7 rfl ?_
    refine y_geta 8 Y 2 dX6_divide_8 rfl rfl ?_
    refine y_iload_n 11 Y dX6_divide_11 rfl ?_
    refine y_iconst 12 Y dX6_divide_12 rfl ?_
    obtain ⟨o3, h⟩ := h
    obtain ⟨o4, h⟩ := h
    refine y_iast 13 Y dX6_divide_13 rfl rfl o3 o4 ?_
    refine y_aload_n 14 Y dX6_divide_14 rfl ?_
    refine y_iload_n 15 Y dX6_divide_15 rfl ?_
    refine y_call 16 Y (as := [mi a3]) [] dX6_divide_16 rfl rfl rfl rfl rfl h (fun r S5 hq hI hr => ?_)
    obtain ⟨v6, rfl, h⟩ := Qi_ok hq
    replace h := h hI (mokI (hr _ rfl))
    clear hq hr
    refine y_iconst 19 Y dX6_divide_19 rfl ?_
    obtain ⟨o7, h⟩ := h
    refine y_isub 20 Y dX6_divide_20 o7 ?_
    refine y_istore 21 Y [some mt, some (mi a1), some (mi a2), some (mi a3), some (mi a4), some (mi (v6 - 1)), none] dX6_divide_21 rfl rfl ?_
    obtain ⟨n1, h⟩ := h
    exact Wk 23 _ [some mt, some (mi a1), some (mi a2), some (mi a3), some (mi a4), some (mi (v6 - 1)), none] _ _ ⟨rfl, ⟨rfl, ⟨rfl, ⟨rfl, ⟨rfl, ⟨rfl, trivial⟩⟩⟩⟩⟩⟩ (hIc n1 _ _ _ _ ((⟨rfl, _, _, _, _, _, rfl, rfl, h⟩)))
  · intro n pc L st T hi hS hL P Y Wk hIc
    clear hE
    rcases hi with ⟨rfl, l1, l2, l3, l4, l5, rfl, rfl, hi⟩
    · have h := h23 n l1 l2 l3 l4 l5 T hS (hL 1 _ rfl) (hL 2 _ rfl) (hL 3 _ rfl) (hL 4 _ rfl) (hL 5 _ rfl) hi
      clear hL hi h23
      refine y_iload 23 Y dX6_divide_23 rfl ?_
      refine y_if 25 98 Y dX6_divide_25 rfl rfl (fun c => ?_) (fun c => ?_)
      · replace h := h.1 c
        exact y_ret 98 Y dX6_divide_98 rfl h
      · replace h := h.2 c
        refine y_aload_n 28 Y dX6_divide_28 rfl ?_
        refine y_iload_n 29 Y dX6_divide_29 rfl ?_
        refine y_aload_n 30 Y dX6_divide_30 rfl ?_
        refine y_iload_n 31 Y dX6_divide_31 rfl ?_
        refine y_iload 32 Y dX6_divide_32 rfl ?_
        refine y_call 34 Y (as := [mi l3, mi l5]) [mi l2, mt] dX6_divide_34 rfl rfl rfl rfl rfl h (fun r S1 hq hI hr => ?_)
        obtain ⟨v2, rfl, h⟩ := Qi_ok hq
        replace h := h hI (mokI (hr _ rfl))
        clear hq hr
        refine y_if 37 44 Y dX6_divide_37 rfl rfl (fun c => ?_) (fun c => ?_)
        · replace h := h.1 c
          refine y_iconst 44 Y dX6_divide_44 rfl ?_
          refine y_call 45 Y (as := [mi l2, mi 0]) [] dX6_divide_45 rfl rfl rfl rfl rfl h (fun r S3 hq hI _ => ?_)
          obtain ⟨rfl, h⟩ := Qv_ok hq
          replace h := h hI
          clear hq
          refine y_aload_n 48 Y dX6_divide_48 rfl ?_
          refine y_iload_n 49 Y dX6_divide_49 rfl ?_
          refine y_iload 50 Y dX6_divide_50 rfl ?_
          refine y_call 52 Y (as := [mi l2, mi l4]) [] dX6_divide_52 rfl rfl rfl rfl rfl h (fun r S4 hq hI hr => ?_)
          obtain ⟨v5, rfl, h⟩ := Qi_ok hq
          replace h := h hI (mokI (hr _ rfl))
          clear hq hr
          refine y_if 55 62 Y dX6_divide_55 rfl rfl (fun c => ?_) (fun c => ?_)
          · replace h := h.1 c
            refine y_iconst 62 Y dX6_divide_62 rfl ?_
            refine y_istore 63 Y [some mt, some (mi l1), some (mi l2), some (mi l3), some (mi l4), some (mi l5), some (mi 0)] dX6_divide_63 rfl rfl ?_
            refine y_iload 65 Y dX6_divide_65 rfl ?_
            refine y_if 67 77 Y dX6_divide_67 rfl rfl (fun _ => ?_) (fun c => absurd (show (0 : Int) = 0 by decide) c)
            refine y_aload_n 77 Y dX6_divide_77 rfl ?_
            refine y_iload_n 78 Y dX6_divide_78 rfl ?_
            refine y_iload 79 Y dX6_divide_79 rfl ?_
            refine y_if 81 88 Y dX6_divide_81 rfl rfl (fun _ => ?_) (fun c => absurd (show (0 : Int) = 0 by decide) c)
            refine y_iconst 88 Y dX6_divide_88 rfl ?_
            refine y_call 89 Y (as := [mi l1, mi 0]) [] dX6_divide_89 rfl rfl rfl rfl rfl h (fun r S6 hq hI _ => ?_)
            obtain ⟨rfl, h⟩ := Qv_ok hq
            replace h := h hI
            clear hq
            obtain ⟨o7, h⟩ := h
            refine y_iinc 92 Y [some mt, some (mi l1), some (mi l2), some (mi l3), some (mi l4), some (mi (l5 + (-1))), some (mi 0)] dX6_divide_92 rfl rfl o7 ?_
            refine y_goto 95 23 Y dX6_divide_95 rfl rfl ?_
            obtain ⟨n1, hn, h⟩ := h
            exact Wk 23 _ [some mt, some (mi l1), some (mi l2), some (mi l3), some (mi l4), some (mi (l5 + (-1))), none] _ _ ⟨rfl, ⟨rfl, ⟨rfl, ⟨rfl, ⟨rfl, ⟨rfl, trivial⟩⟩⟩⟩⟩⟩ (hIc n1 _ _ _ _ hn ((⟨rfl, _, _, _, _, _, rfl, rfl, h⟩)))
          · replace h := h.2 c
            refine y_iconst 58 Y dX6_divide_58 rfl ?_
            refine y_goto 59 63 Y dX6_divide_59 rfl rfl ?_
            refine y_istore 63 Y [some mt, some (mi l1), some (mi l2), some (mi l3), some (mi l4), some (mi l5), some (mi 1)] dX6_divide_63 rfl rfl ?_
            refine y_iload 65 Y dX6_divide_65 rfl ?_
            refine y_if 67 77 Y dX6_divide_67 rfl rfl (fun c => absurd c (show ¬ ((1 : Int) = 0) by decide)) (fun _ => ?_)
            refine y_aload_n 70 Y dX6_divide_70 rfl ?_
            refine y_iload_n 71 Y dX6_divide_71 rfl ?_
            refine y_iload 72 Y dX6_divide_72 rfl ?_
            refine y_call 74 Y (as := [mi l2, mi l4]) [] dX6_divide_74 rfl rfl rfl rfl rfl h (fun r S8 hq hI _ => ?_)
            obtain ⟨rfl, h⟩ := Qv_ok hq
            replace h := h hI
            clear hq
            refine y_aload_n 77 Y dX6_divide_77 rfl ?_
            refine y_iload_n 78 Y dX6_divide_78 rfl ?_
            refine y_iload 79 Y dX6_divide_79 rfl ?_
            refine y_if 81 88 Y dX6_divide_81 rfl rfl (fun c => absurd c (show ¬ ((1 : Int) = 0) by decide)) (fun _ => ?_)
            refine y_iconst 84 Y dX6_divide_84 rfl ?_
            refine y_goto 85 89 Y dX6_divide_85 rfl rfl ?_
            refine y_call 89 Y (as := [mi l1, mi 1]) [] dX6_divide_89 rfl rfl rfl rfl rfl h (fun r S9 hq hI _ => ?_)
            obtain ⟨rfl, h⟩ := Qv_ok hq
            replace h := h hI
            clear hq
            obtain ⟨o10, h⟩ := h
            refine y_iinc 92 Y [some mt, some (mi l1), some (mi l2), some (mi l3), some (mi l4), some (mi (l5 + (-1))), some (mi 1)] dX6_divide_92 rfl rfl o10 ?_
            refine y_goto 95 23 Y dX6_divide_95 rfl rfl ?_
            obtain ⟨n1, hn, h⟩ := h
            exact Wk 23 _ [some mt, some (mi l1), some (mi l2), some (mi l3), some (mi l4), some (mi (l5 + (-1))), none] _ _ ⟨rfl, ⟨rfl, ⟨rfl, ⟨rfl, ⟨rfl, ⟨rfl, trivial⟩⟩⟩⟩⟩⟩ (hIc n1 _ _ _ _ hn ((⟨rfl, _, _, _, _, _, rfl, rfl, h⟩)))
        · replace h := h.2 c
          refine y_iconst 40 Y dX6_divide_40 rfl ?_
          refine y_goto 41 45 Y dX6_divide_41 rfl rfl ?_
          refine y_call 45 Y (as := [mi l2, mi 1]) [] dX6_divide_45 rfl rfl rfl rfl rfl h (fun r S11 hq hI _ => ?_)
          obtain ⟨rfl, h⟩ := Qv_ok hq
          replace h := h hI
          clear hq
          refine y_aload_n 48 Y dX6_divide_48 rfl ?_
          refine y_iload_n 49 Y dX6_divide_49 rfl ?_
          refine y_iload 50 Y dX6_divide_50 rfl ?_
          refine y_call 52 Y (as := [mi l2, mi l4]) [] dX6_divide_52 rfl rfl rfl rfl rfl h (fun r S12 hq hI hr => ?_)
          obtain ⟨v13, rfl, h⟩ := Qi_ok hq
          replace h := h hI (mokI (hr _ rfl))
          clear hq hr
          refine y_if 55 62 Y dX6_divide_55 rfl rfl (fun c => ?_) (fun c => ?_)
          · replace h := h.1 c
            refine y_iconst 62 Y dX6_divide_62 rfl ?_
            refine y_istore 63 Y [some mt, some (mi l1), some (mi l2), some (mi l3), some (mi l4), some (mi l5), some (mi 0)] dX6_divide_63 rfl rfl ?_
            refine y_iload 65 Y dX6_divide_65 rfl ?_
            refine y_if 67 77 Y dX6_divide_67 rfl rfl (fun _ => ?_) (fun c => absurd (show (0 : Int) = 0 by decide) c)
            refine y_aload_n 77 Y dX6_divide_77 rfl ?_
            refine y_iload_n 78 Y dX6_divide_78 rfl ?_
            refine y_iload 79 Y dX6_divide_79 rfl ?_
            refine y_if 81 88 Y dX6_divide_81 rfl rfl (fun _ => ?_) (fun c => absurd (show (0 : Int) = 0 by decide) c)
            refine y_iconst 88 Y dX6_divide_88 rfl ?_
            refine y_call 89 Y (as := [mi l1, mi 0]) [] dX6_divide_89 rfl rfl rfl rfl rfl h (fun r S14 hq hI _ => ?_)
            obtain ⟨rfl, h⟩ := Qv_ok hq
            replace h := h hI
            clear hq
            obtain ⟨o15, h⟩ := h
            refine y_iinc 92 Y [some mt, some (mi l1), some (mi l2), some (mi l3), some (mi l4), some (mi (l5 + (-1))), some (mi 0)] dX6_divide_92 rfl rfl o15 ?_
            refine y_goto 95 23 Y dX6_divide_95 rfl rfl ?_
            obtain ⟨n1, hn, h⟩ := h
            exact Wk 23 _ [some mt, some (mi l1), some (mi l2), some (mi l3), some (mi l4), some (mi (l5 + (-1))), none] _ _ ⟨rfl, ⟨rfl, ⟨rfl, ⟨rfl, ⟨rfl, ⟨rfl, trivial⟩⟩⟩⟩⟩⟩ (hIc n1 _ _ _ _ hn ((⟨rfl, _, _, _, _, _, rfl, rfl, h⟩)))
          · replace h := h.2 c
            refine y_iconst 58 Y dX6_divide_58 rfl ?_
            refine y_goto 59 63 Y dX6_divide_59 rfl rfl ?_
            refine y_istore 63 Y [some mt, some (mi l1), some (mi l2), some (mi l3), some (mi l4), some (mi l5), some (mi 1)] dX6_divide_63 rfl rfl ?_
            refine y_iload 65 Y dX6_divide_65 rfl ?_
            refine y_if 67 77 Y dX6_divide_67 rfl rfl (fun c => absurd c (show ¬ ((1 : Int) = 0) by decide)) (fun _ => ?_)
            refine y_aload_n 70 Y dX6_divide_70 rfl ?_
            refine y_iload_n 71 Y dX6_divide_71 rfl ?_
            refine y_iload 72 Y dX6_divide_72 rfl ?_
            refine y_call 74 Y (as := [mi l2, mi l4]) [] dX6_divide_74 rfl rfl rfl rfl rfl h (fun r S16 hq hI _ => ?_)
            obtain ⟨rfl, h⟩ := Qv_ok hq
            replace h := h hI
            clear hq
            refine y_aload_n 77 Y dX6_divide_77 rfl ?_
            refine y_iload_n 78 Y dX6_divide_78 rfl ?_
            refine y_iload 79 Y dX6_divide_79 rfl ?_
            refine y_if 81 88 Y dX6_divide_81 rfl rfl (fun c => absurd c (show ¬ ((1 : Int) = 0) by decide)) (fun _ => ?_)
            refine y_iconst 84 Y dX6_divide_84 rfl ?_
            refine y_goto 85 89 Y dX6_divide_85 rfl rfl ?_
            refine y_call 89 Y (as := [mi l1, mi 1]) [] dX6_divide_89 rfl rfl rfl rfl rfl h (fun r S17 hq hI _ => ?_)
            obtain ⟨rfl, h⟩ := Qv_ok hq
            replace h := h hI
            clear hq
            obtain ⟨o18, h⟩ := h
            refine y_iinc 92 Y [some mt, some (mi l1), some (mi l2), some (mi l3), some (mi l4), some (mi (l5 + (-1))), some (mi 1)] dX6_divide_92 rfl rfl o18 ?_
            refine y_goto 95 23 Y dX6_divide_95 rfl rfl ?_
            obtain ⟨n1, hn, h⟩ := h
            exact Wk 23 _ [some mt, some (mi l1), some (mi l2), some (mi l3), some (mi l4), some (mi (l5 + (-1))), none] _ _ ⟨rfl, ⟨rfl, ⟨rfl, ⟨rfl, ⟨rfl, ⟨rfl, trivial⟩⟩⟩⟩⟩⟩ (hIc n1 _ _ _ _ hn ((⟨rfl, _, _, _, _, _, rfl, rfl, h⟩)))
set_option maxHeartbeats 4000000 in
theorem of_graft {g : mG} {S : mS} {a1 a2 a3 : Int} {Qp : Option mV → mS → Prop}
    (hE : mI S → (-2147483648 ≤ a1 ∧ a1 ≤ 2147483647) → (-2147483648 ≤ a2 ∧ a2 ≤ 2147483647) → (-2147483648 ≤ a3 ∧ a3 ≤ 2147483647) → CX_isTree g [mt, mi a1] S (Qi fun v2 S1 => mI S1 → (-2147483648 ≤ v2 ∧ v2 ≤ 2147483647) → ((v2 = 0) → CX_isName g [mi a2] S1 (Qi fun v4 S3 => mI S3 → (-2147483648 ≤ v4 ∧ v4 ≤ 2147483647) → ((v4 ≠ 0) → CX_refused g [mt, mi 1, mi 0, mi 0] S3 (Qi fun v6 S5 => mI S5 → (-2147483648 ≤ v6 ∧ v6 ≤ 2147483647) → ((v6 = 0) → CX_shelf g [mi a1] S5 (Qi fun v8 S7 => mI S7 → (-2147483648 ≤ v8 ∧ v8 ≤ 2147483647) → CX_shelf g [mi a3] S7 (Qi fun v10 S9 => mI S9 → (-2147483648 ≤ v10 ∧ v10 ≤ 2147483647) → CX_grafted g [mt, mi v8, mi a2, mi v10] S9 (Qi fun v12 S11 => mI S11 → (-2147483648 ≤ v12 ∧ v12 ≤ 2147483647) → (((S11 10 0) = 30) → CX_refused g [mt, mi 0, mi 0, mi 1] S11 (Qi fun v14 S13 => mI S13 → (-2147483648 ≤ v14 ∧ v14 ≤ 2147483647) → ((v14 = 0) → CX_shelve g [mt, mi 13540, mi v12] S13 (Qi fun v16 S15 => mI S15 → (-2147483648 ≤ v16 ∧ v16 ≤ 2147483647) → Qp (some (mi v16)) S15)) ∧ (¬ (v14 = 0) → Qp (some (mi 0)) S13))) ∧ (¬ ((S11 10 0) = 30) → ((v12 ≤ 80) → CX_refused g [mt, mi 0, mi 0, mi 0] S11 (Qi fun v18 S17 => mI S17 → (-2147483648 ≤ v18 ∧ v18 ≤ 2147483647) → ((v18 = 0) → CX_shelve g [mt, mi 13540, mi v12] S17 (Qi fun v20 S19 => mI S19 → (-2147483648 ≤ v20 ∧ v20 ≤ 2147483647) → Qp (some (mi v20)) S19)) ∧ (¬ (v18 = 0) → Qp (some (mi 0)) S17))) ∧ (¬ (v12 ≤ 80) → CX_refused g [mt, mi 0, mi 0, mi 1] S11 (Qi fun v22 S21 => mI S21 → (-2147483648 ≤ v22 ∧ v22 ≤ 2147483647) → ((v22 = 0) → CX_shelve g [mt, mi 13540, mi v12] S21 (Qi fun v24 S23 => mI S23 → (-2147483648 ≤ v24 ∧ v24 ≤ 2147483647) → Qp (some (mi v24)) S23)) ∧ (¬ (v22 = 0) → Qp (some (mi 0)) S21)))))))) ∧ (¬ (v6 = 0) → Qp (some (mi 0)) S5))) ∧ (¬ (v4 ≠ 0) → CX_refused g [mt, mi 1, mi 1, mi 0] S3 (Qi fun v26 S25 => mI S25 → (-2147483648 ≤ v26 ∧ v26 ≤ 2147483647) → ((v26 = 0) → CX_shelf g [mi a1] S25 (Qi fun v28 S27 => mI S27 → (-2147483648 ≤ v28 ∧ v28 ≤ 2147483647) → CX_shelf g [mi a3] S27 (Qi fun v30 S29 => mI S29 → (-2147483648 ≤ v30 ∧ v30 ≤ 2147483647) → CX_grafted g [mt, mi v28, mi a2, mi v30] S29 (Qi fun v32 S31 => mI S31 → (-2147483648 ≤ v32 ∧ v32 ≤ 2147483647) → (((S31 10 0) = 30) → CX_refused g [mt, mi 0, mi 0, mi 1] S31 (Qi fun v34 S33 => mI S33 → (-2147483648 ≤ v34 ∧ v34 ≤ 2147483647) → ((v34 = 0) → CX_shelve g [mt, mi 13540, mi v32] S33 (Qi fun v36 S35 => mI S35 → (-2147483648 ≤ v36 ∧ v36 ≤ 2147483647) → Qp (some (mi v36)) S35)) ∧ (¬ (v34 = 0) → Qp (some (mi 0)) S33))) ∧ (¬ ((S31 10 0) = 30) → ((v32 ≤ 80) → CX_refused g [mt, mi 0, mi 0, mi 0] S31 (Qi fun v38 S37 => mI S37 → (-2147483648 ≤ v38 ∧ v38 ≤ 2147483647) → ((v38 = 0) → CX_shelve g [mt, mi 13540, mi v32] S37 (Qi fun v40 S39 => mI S39 → (-2147483648 ≤ v40 ∧ v40 ≤ 2147483647) → Qp (some (mi v40)) S39)) ∧ (¬ (v38 = 0) → Qp (some (mi 0)) S37))) ∧ (¬ (v32 ≤ 80) → CX_refused g [mt, mi 0, mi 0, mi 1] S31 (Qi fun v42 S41 => mI S41 → (-2147483648 ≤ v42 ∧ v42 ≤ 2147483647) → ((v42 = 0) → CX_shelve g [mt, mi 13540, mi v32] S41 (Qi fun v44 S43 => mI S43 → (-2147483648 ≤ v44 ∧ v44 ≤ 2147483647) → Qp (some (mi v44)) S43)) ∧ (¬ (v42 = 0) → Qp (some (mi 0)) S41)))))))) ∧ (¬ (v26 = 0) → Qp (some (mi 0)) S25))))) ∧ (¬ (v2 = 0) → CX_isTree g [mt, mi a3] S1 (Qi fun v46 S45 => mI S45 → (-2147483648 ≤ v46 ∧ v46 ≤ 2147483647) → ((v46 ≠ 0) → CX_isName g [mi a2] S45 (Qi fun v48 S47 => mI S47 → (-2147483648 ≤ v48 ∧ v48 ≤ 2147483647) → ((v48 ≠ 0) → CX_refused g [mt, mi 0, mi 0, mi 0] S47 (Qi fun v50 S49 => mI S49 → (-2147483648 ≤ v50 ∧ v50 ≤ 2147483647) → ((v50 = 0) → CX_shelf g [mi a1] S49 (Qi fun v52 S51 => mI S51 → (-2147483648 ≤ v52 ∧ v52 ≤ 2147483647) → CX_shelf g [mi a3] S51 (Qi fun v54 S53 => mI S53 → (-2147483648 ≤ v54 ∧ v54 ≤ 2147483647) → CX_grafted g [mt, mi v52, mi a2, mi v54] S53 (Qi fun v56 S55 => mI S55 → (-2147483648 ≤ v56 ∧ v56 ≤ 2147483647) → (((S55 10 0) = 30) → CX_refused g [mt, mi 0, mi 0, mi 1] S55 (Qi fun v58 S57 => mI S57 → (-2147483648 ≤ v58 ∧ v58 ≤ 2147483647) → ((v58 = 0) → CX_shelve g [mt, mi 13540, mi v56] S57 (Qi fun v60 S59 => mI S59 → (-2147483648 ≤ v60 ∧ v60 ≤ 2147483647) → Qp (some (mi v60)) S59)) ∧ (¬ (v58 = 0) → Qp (some (mi 0)) S57))) ∧ (¬ ((S55 10 0) = 30) → ((v56 ≤ 80) → CX_refused g [mt, mi 0, mi 0, mi 0] S55 (Qi fun v62 S61 => mI S61 → (-2147483648 ≤ v62 ∧ v62 ≤ 2147483647) → ((v62 = 0) → CX_shelve g [mt, mi 13540, mi v56] S61 (Qi fun v64 S63 => mI S63 → (-2147483648 ≤ v64 ∧ v64 ≤ 2147483647) → Qp (some (mi v64)) S63)) ∧ (¬ (v62 = 0) → Qp (some (mi 0)) S61))) ∧ (¬ (v56 ≤ 80) → CX_refused g [mt, mi 0, mi 0, mi 1] S55 (Qi fun v66 S65 => mI S65 → (-2147483648 ≤ v66 ∧ v66 ≤ 2147483647) → ((v66 = 0) → CX_shelve g [mt, mi 13540, mi v56] S65 (Qi fun v68 S67 => mI S67 → (-2147483648 ≤ v68 ∧ v68 ≤ 2147483647) → Qp (some (mi v68)) S67)) ∧ (¬ (v66 = 0) → Qp (some (mi 0)) S65)))))))) ∧ (¬ (v50 = 0) → Qp (some (mi 0)) S49))) ∧ (¬ (v48 ≠ 0) → CX_refused g [mt, mi 0, mi 1, mi 0] S47 (Qi fun v70 S69 => mI S69 → (-2147483648 ≤ v70 ∧ v70 ≤ 2147483647) → ((v70 = 0) → CX_shelf g [mi a1] S69 (Qi fun v72 S71 => mI S71 → (-2147483648 ≤ v72 ∧ v72 ≤ 2147483647) → CX_shelf g [mi a3] S71 (Qi fun v74 S73 => mI S73 → (-2147483648 ≤ v74 ∧ v74 ≤ 2147483647) → CX_grafted g [mt, mi v72, mi a2, mi v74] S73 (Qi fun v76 S75 => mI S75 → (-2147483648 ≤ v76 ∧ v76 ≤ 2147483647) → (((S75 10 0) = 30) → CX_refused g [mt, mi 0, mi 0, mi 1] S75 (Qi fun v78 S77 => mI S77 → (-2147483648 ≤ v78 ∧ v78 ≤ 2147483647) → ((v78 = 0) → CX_shelve g [mt, mi 13540, mi v76] S77 (Qi fun v80 S79 => mI S79 → (-2147483648 ≤ v80 ∧ v80 ≤ 2147483647) → Qp (some (mi v80)) S79)) ∧ (¬ (v78 = 0) → Qp (some (mi 0)) S77))) ∧ (¬ ((S75 10 0) = 30) → ((v76 ≤ 80) → CX_refused g [mt, mi 0, mi 0, mi 0] S75 (Qi fun v82 S81 => mI S81 → (-2147483648 ≤ v82 ∧ v82 ≤ 2147483647) → ((v82 = 0) → CX_shelve g [mt, mi 13540, mi v76] S81 (Qi fun v84 S83 => mI S83 → (-2147483648 ≤ v84 ∧ v84 ≤ 2147483647) → Qp (some (mi v84)) S83)) ∧ (¬ (v82 = 0) → Qp (some (mi 0)) S81))) ∧ (¬ (v76 ≤ 80) → CX_refused g [mt, mi 0, mi 0, mi 1] S75 (Qi fun v86 S85 => mI S85 → (-2147483648 ≤ v86 ∧ v86 ≤ 2147483647) → ((v86 = 0) → CX_shelve g [mt, mi 13540, mi v76] S85 (Qi fun v88 S87 => mI S87 → (-2147483648 ≤ v88 ∧ v88 ≤ 2147483647) → Qp (some (mi v88)) S87)) ∧ (¬ (v86 = 0) → Qp (some (mi 0)) S85)))))))) ∧ (¬ (v70 = 0) → Qp (some (mi 0)) S69))))) ∧ (¬ (v46 ≠ 0) → CX_isName g [mi a2] S45 (Qi fun v90 S89 => mI S89 → (-2147483648 ≤ v90 ∧ v90 ≤ 2147483647) → ((v90 ≠ 0) → CX_refused g [mt, mi 1, mi 0, mi 0] S89 (Qi fun v92 S91 => mI S91 → (-2147483648 ≤ v92 ∧ v92 ≤ 2147483647) → ((v92 = 0) → CX_shelf g [mi a1] S91 (Qi fun v94 S93 => mI S93 → (-2147483648 ≤ v94 ∧ v94 ≤ 2147483647) → CX_shelf g [mi a3] S93 (Qi fun v96 S95 => mI S95 → (-2147483648 ≤ v96 ∧ v96 ≤ 2147483647) → CX_grafted g [mt, mi v94, mi a2, mi v96] S95 (Qi fun v98 S97 => mI S97 → (-2147483648 ≤ v98 ∧ v98 ≤ 2147483647) → (((S97 10 0) = 30) → CX_refused g [mt, mi 0, mi 0, mi 1] S97 (Qi fun v100 S99 => mI S99 → (-2147483648 ≤ v100 ∧ v100 ≤ 2147483647) → ((v100 = 0) → CX_shelve g [mt, mi 13540, mi v98] S99 (Qi fun v102 S101 => mI S101 → (-2147483648 ≤ v102 ∧ v102 ≤ 2147483647) → Qp (some (mi v102)) S101)) ∧ (¬ (v100 = 0) → Qp (some (mi 0)) S99))) ∧ (¬ ((S97 10 0) = 30) → ((v98 ≤ 80) → CX_refused g [mt, mi 0, mi 0, mi 0] S97 (Qi fun v104 S103 => mI S103 → (-2147483648 ≤ v104 ∧ v104 ≤ 2147483647) → ((v104 = 0) → CX_shelve g [mt, mi 13540, mi v98] S103 (Qi fun v106 S105 => mI S105 → (-2147483648 ≤ v106 ∧ v106 ≤ 2147483647) → Qp (some (mi v106)) S105)) ∧ (¬ (v104 = 0) → Qp (some (mi 0)) S103))) ∧ (¬ (v98 ≤ 80) → CX_refused g [mt, mi 0, mi 0, mi 1] S97 (Qi fun v108 S107 => mI S107 → (-2147483648 ≤ v108 ∧ v108 ≤ 2147483647) → ((v108 = 0) → CX_shelve g [mt, mi 13540, mi v98] S107 (Qi fun v110 S109 => mI S109 → (-2147483648 ≤ v110 ∧ v110 ≤ 2147483647) → Qp (some (mi v110)) S109)) ∧ (¬ (v108 = 0) → Qp (some (mi 0)) S107)))))))) ∧ (¬ (v92 = 0) → Qp (some (mi 0)) S91))) ∧ (¬ (v90 ≠ 0) → CX_refused g [mt, mi 1, mi 1, mi 0] S89 (Qi fun v112 S111 => mI S111 → (-2147483648 ≤ v112 ∧ v112 ≤ 2147483647) → ((v112 = 0) → CX_shelf g [mi a1] S111 (Qi fun v114 S113 => mI S113 → (-2147483648 ≤ v114 ∧ v114 ≤ 2147483647) → CX_shelf g [mi a3] S113 (Qi fun v116 S115 => mI S115 → (-2147483648 ≤ v116 ∧ v116 ≤ 2147483647) → CX_grafted g [mt, mi v114, mi a2, mi v116] S115 (Qi fun v118 S117 => mI S117 → (-2147483648 ≤ v118 ∧ v118 ≤ 2147483647) → (((S117 10 0) = 30) → CX_refused g [mt, mi 0, mi 0, mi 1] S117 (Qi fun v120 S119 => mI S119 → (-2147483648 ≤ v120 ∧ v120 ≤ 2147483647) → ((v120 = 0) → CX_shelve g [mt, mi 13540, mi v118] S119 (Qi fun v122 S121 => mI S121 → (-2147483648 ≤ v122 ∧ v122 ≤ 2147483647) → Qp (some (mi v122)) S121)) ∧ (¬ (v120 = 0) → Qp (some (mi 0)) S119))) ∧ (¬ ((S117 10 0) = 30) → ((v118 ≤ 80) → CX_refused g [mt, mi 0, mi 0, mi 0] S117 (Qi fun v124 S123 => mI S123 → (-2147483648 ≤ v124 ∧ v124 ≤ 2147483647) → ((v124 = 0) → CX_shelve g [mt, mi 13540, mi v118] S123 (Qi fun v126 S125 => mI S125 → (-2147483648 ≤ v126 ∧ v126 ≤ 2147483647) → Qp (some (mi v126)) S125)) ∧ (¬ (v124 = 0) → Qp (some (mi 0)) S123))) ∧ (¬ (v118 ≤ 80) → CX_refused g [mt, mi 0, mi 0, mi 1] S117 (Qi fun v128 S127 => mI S127 → (-2147483648 ≤ v128 ∧ v128 ≤ 2147483647) → ((v128 = 0) → CX_shelve g [mt, mi 13540, mi v118] S127 (Qi fun v130 S129 => mI S129 → (-2147483648 ≤ v130 ∧ v130 ≤ 2147483647) → Qp (some (mi v130)) S129)) ∧ (¬ (v128 = 0) → Qp (some (mi 0)) S127)))))))) ∧ (¬ (v112 = 0) → Qp (some (mi 0)) S111)))))))))
    : CX_graft g [mt, mi a1, mi a2, mi a3] S Qp := by
  refine cm_y ⟨by decide, rfl⟩ (by simp [mcat]) (by simp) (fun _ _ _ _ _ => False) ?_ ?_
  · intro ha hS P Y Wk hIc
    have h := hE hS (mokI (ha (mi a1) (by simp))) (mokI (ha (mi a2) (by simp))) (mokI (ha (mi a3) (by simp)))
    clear hE ha
    refine y_aload_n 0 Y dX6_graft_0 rfl ?_
    refine y_aload_n 1 Y dX6_graft_1 rfl ?_
    refine y_iload_n 2 Y dX6_graft_2 rfl ?_
    refine y_call 3 Y (as := [mi a1]) [mt] dX6_graft_3 rfl rfl rfl rfl rfl h (fun r S1 hq hI hr => ?_)
    obtain ⟨v2, rfl, h⟩ := Qi_ok hq
    replace h := h hI (mokI (hr _ rfl))
    clear hq hr
    refine y_if 6 17 Y dX6_graft_6 rfl rfl (fun c => ?_) (fun c => ?_)
    · replace h := h.1 c
      refine y_iconst 17 Y dX6_graft_17 rfl ?_
      refine y_goto 18 22 Y dX6_graft_18 rfl rfl ?_
      refine y_iload_n 22 Y dX6_graft_22 rfl ?_
      refine y_calls 23 Y (as := [mi a2]) [mi 1, mt] dX6_graft_23 rfl rfl rfl rfl rfl h (fun r S3 hq hI hr => ?_)
      obtain ⟨v4, rfl, h⟩ := Qi_ok hq
      replace h := h hI (mokI (hr _ rfl))
      clear hq hr
      refine y_if 26 33 Y dX6_graft_26 rfl rfl (fun c => ?_) (fun c => ?_)
      · replace h := h.1 c
        refine y_iconst 33 Y dX6_graft_33 rfl ?_
        refine y_iconst 34 Y dX6_graft_34 rfl ?_
        refine y_call 35 Y (as := [mi 1, mi 0, mi 0]) [] dX6_graft_35 rfl rfl rfl rfl rfl h (fun r S5 hq hI hr => ?_)
        obtain ⟨v6, rfl, h⟩ := Qi_ok hq
        replace h := h hI (mokI (hr _ rfl))
        clear hq hr
        refine y_if 38 43 Y dX6_graft_38 rfl rfl (fun c => ?_) (fun c => ?_)
        · replace h := h.1 c
          refine y_aload_n 43 Y dX6_graft_43 rfl ?_
          refine y_iload_n 44 Y dX6_graft_44 rfl ?_
          refine y_calls 45 Y (as := [mi a1]) [mt] dX6_graft_45 rfl rfl rfl rfl rfl h (fun r S7 hq hI hr => ?_)
          obtain ⟨v8, rfl, h⟩ := Qi_ok hq
          replace h := h hI (mokI (hr _ rfl))
          clear hq hr
          refine y_iload_n 48 Y dX6_graft_48 rfl ?_
          refine y_iload_n 49 Y dX6_graft_49 rfl ?_
          refine y_calls 50 Y (as := [mi a3]) [mi a2, mi v8, mt] dX6_graft_50 rfl rfl rfl rfl rfl h (fun r S9 hq hI hr => ?_)
          obtain ⟨v10, rfl, h⟩ := Qi_ok hq
          replace h := h hI (mokI (hr _ rfl))
          clear hq hr
          refine y_call 53 Y (as := [mi v8, mi a2, mi v10]) [] dX6_graft_53 rfl rfl rfl rfl rfl h (fun r S11 hq hI hr => ?_)
          obtain ⟨v12, rfl, h⟩ := Qi_ok hq
          replace h := h hI (mokI (hr _ rfl))
          clear hq hr
          refine y_istore 56 Y [some mt, some (mi a1), some (mi a2), some (mi a3), some (mi v12)] dX6_graft_56 rfl rfl ?_
          refine y_aload_n 58 Y dX6_graft_58 rfl ?_
          refine y_iconst 59 Y dX6_graft_59 rfl ?_
          refine y_iconst 60 Y dX6_graft_60 rfl ?_
          refine y_aload_n 61 Y dX6_graft_61 rfl ?_
          refine y_getf 62 Y 10 dX6_graft_62 rfl rfl (fun _ => ?_)
          refine y_bipush 65 Y dX6_graft_65 rfl ?_
          refine y_icmp 67 77 Y dX6_graft_67 rfl rfl (fun c => ?_) (fun c => ?_)
          · replace h := h.1 c
            refine y_iconst 77 Y dX6_graft_77 rfl ?_
            refine y_goto 78 82 Y dX6_graft_78 rfl rfl ?_
            refine y_call 82 Y (as := [mi 0, mi 0, mi 1]) [] dX6_graft_82 rfl rfl rfl rfl rfl h (fun r S13 hq hI hr => ?_)
            obtain ⟨v14, rfl, h⟩ := Qi_ok hq
            replace h := h hI (mokI (hr _ rfl))
            clear hq hr
            refine y_if 85 90 Y dX6_graft_85 rfl rfl (fun c => ?_) (fun c => ?_)
            · replace h := h.1 c
              refine y_aload_n 90 Y dX6_graft_90 rfl ?_
              refine y_sipush 91 Y dX6_graft_91 rfl ?_
              refine y_iload 94 Y dX6_graft_94 rfl ?_
              refine y_call 96 Y (as := [mi 13540, mi v12]) [] dX6_graft_96 rfl rfl rfl rfl rfl h (fun r S15 hq hI hr => ?_)
              obtain ⟨v16, rfl, h⟩ := Qi_ok hq
              replace h := h hI (mokI (hr _ rfl))
              clear hq hr
              exact y_iret 99 Y dX6_graft_99 rfl h
            · replace h := h.2 c
              refine y_iconst 88 Y dX6_graft_88 rfl ?_
              exact y_iret 89 Y dX6_graft_89 rfl h
          · replace h := h.2 c
            refine y_iload 70 Y dX6_graft_70 rfl ?_
            refine y_bipush 72 Y dX6_graft_72 rfl ?_
            refine y_icmp 74 81 Y dX6_graft_74 rfl rfl (fun c => ?_) (fun c => ?_)
            · replace h := h.1 c
              refine y_iconst 81 Y dX6_graft_81 rfl ?_
              refine y_call 82 Y (as := [mi 0, mi 0, mi 0]) [] dX6_graft_82 rfl rfl rfl rfl rfl h (fun r S17 hq hI hr => ?_)
              obtain ⟨v18, rfl, h⟩ := Qi_ok hq
              replace h := h hI (mokI (hr _ rfl))
              clear hq hr
              refine y_if 85 90 Y dX6_graft_85 rfl rfl (fun c => ?_) (fun c => ?_)
              · replace h := h.1 c
                refine y_aload_n 90 Y dX6_graft_90 rfl ?_
                refine y_sipush 91 Y dX6_graft_91 rfl ?_
                refine y_iload 94 Y dX6_graft_94 rfl ?_
                refine y_call 96 Y (as := [mi 13540, mi v12]) [] dX6_graft_96 rfl rfl rfl rfl rfl h (fun r S19 hq hI hr => ?_)
                obtain ⟨v20, rfl, h⟩ := Qi_ok hq
                replace h := h hI (mokI (hr _ rfl))
                clear hq hr
                exact y_iret 99 Y dX6_graft_99 rfl h
              · replace h := h.2 c
                refine y_iconst 88 Y dX6_graft_88 rfl ?_
                exact y_iret 89 Y dX6_graft_89 rfl h
            · replace h := h.2 c
              refine y_iconst 77 Y dX6_graft_77 rfl ?_
              refine y_goto 78 82 Y dX6_graft_78 rfl rfl ?_
              refine y_call 82 Y (as := [mi 0, mi 0, mi 1]) [] dX6_graft_82 rfl rfl rfl rfl rfl h (fun r S21 hq hI hr => ?_)
              obtain ⟨v22, rfl, h⟩ := Qi_ok hq
              replace h := h hI (mokI (hr _ rfl))
              clear hq hr
              refine y_if 85 90 Y dX6_graft_85 rfl rfl (fun c => ?_) (fun c => ?_)
              · replace h := h.1 c
                refine y_aload_n 90 Y dX6_graft_90 rfl ?_
                refine y_sipush 91 Y dX6_graft_91 rfl ?_
                refine y_iload 94 Y dX6_graft_94 rfl ?_
                refine y_call 96 Y (as := [mi 13540, mi v12]) [] dX6_graft_96 rfl rfl rfl rfl rfl h (fun r S23 hq hI hr => ?_)
                obtain ⟨v24, rfl, h⟩ := Qi_ok hq
                replace h := h hI (mokI (hr _ rfl))
                clear hq hr
                exact y_iret 99 Y dX6_graft_99 rfl h
              · replace h := h.2 c
                refine y_iconst 88 Y dX6_graft_88 rfl ?_
                exact y_iret 89 Y dX6_graft_89 rfl h
        · replace h := h.2 c
          refine y_iconst 41 Y dX6_graft_41 rfl ?_
          exact y_iret 42 Y dX6_graft_42 rfl h
      · replace h := h.2 c
        refine y_iconst 29 Y dX6_graft_29 rfl ?_
        refine y_goto 30 34 Y dX6_graft_30 rfl rfl ?_
        refine y_iconst 34 Y dX6_graft_34 rfl ?_
        refine y_call 35 Y (as := [mi 1, mi 1, mi 0]) [] dX6_graft_35 rfl rfl rfl rfl rfl h (fun r S25 hq hI hr => ?_)
        obtain ⟨v26, rfl, h⟩ := Qi_ok hq
        replace h := h hI (mokI (hr _ rfl))
        clear hq hr
        refine y_if 38 43 Y dX6_graft_38 rfl rfl (fun c => ?_) (fun c => ?_)
        · replace h := h.1 c
          refine y_aload_n 43 Y dX6_graft_43 rfl ?_
          refine y_iload_n 44 Y dX6_graft_44 rfl ?_
          refine y_calls 45 Y (as := [mi a1]) [mt] dX6_graft_45 rfl rfl rfl rfl rfl h (fun r S27 hq hI hr => ?_)
          obtain ⟨v28, rfl, h⟩ := Qi_ok hq
          replace h := h hI (mokI (hr _ rfl))
          clear hq hr
          refine y_iload_n 48 Y dX6_graft_48 rfl ?_
          refine y_iload_n 49 Y dX6_graft_49 rfl ?_
          refine y_calls 50 Y (as := [mi a3]) [mi a2, mi v28, mt] dX6_graft_50 rfl rfl rfl rfl rfl h (fun r S29 hq hI hr => ?_)
          obtain ⟨v30, rfl, h⟩ := Qi_ok hq
          replace h := h hI (mokI (hr _ rfl))
          clear hq hr
          refine y_call 53 Y (as := [mi v28, mi a2, mi v30]) [] dX6_graft_53 rfl rfl rfl rfl rfl h (fun r S31 hq hI hr => ?_)
          obtain ⟨v32, rfl, h⟩ := Qi_ok hq
          replace h := h hI (mokI (hr _ rfl))
          clear hq hr
          refine y_istore 56 Y [some mt, some (mi a1), some (mi a2), some (mi a3), some (mi v32)] dX6_graft_56 rfl rfl ?_
          refine y_aload_n 58 Y dX6_graft_58 rfl ?_
          refine y_iconst 59 Y dX6_graft_59 rfl ?_
          refine y_iconst 60 Y dX6_graft_60 rfl ?_
          refine y_aload_n 61 Y dX6_graft_61 rfl ?_
          refine y_getf 62 Y 10 dX6_graft_62 rfl rfl (fun _ => ?_)
          refine y_bipush 65 Y dX6_graft_65 rfl ?_
          refine y_icmp 67 77 Y dX6_graft_67 rfl rfl (fun c => ?_) (fun c => ?_)
          · replace h := h.1 c
            refine y_iconst 77 Y dX6_graft_77 rfl ?_
            refine y_goto 78 82 Y dX6_graft_78 rfl rfl ?_
            refine y_call 82 Y (as := [mi 0, mi 0, mi 1]) [] dX6_graft_82 rfl rfl rfl rfl rfl h (fun r S33 hq hI hr => ?_)
            obtain ⟨v34, rfl, h⟩ := Qi_ok hq
            replace h := h hI (mokI (hr _ rfl))
            clear hq hr
            refine y_if 85 90 Y dX6_graft_85 rfl rfl (fun c => ?_) (fun c => ?_)
            · replace h := h.1 c
              refine y_aload_n 90 Y dX6_graft_90 rfl ?_
              refine y_sipush 91 Y dX6_graft_91 rfl ?_
              refine y_iload 94 Y dX6_graft_94 rfl ?_
              refine y_call 96 Y (as := [mi 13540, mi v32]) [] dX6_graft_96 rfl rfl rfl rfl rfl h (fun r S35 hq hI hr => ?_)
              obtain ⟨v36, rfl, h⟩ := Qi_ok hq
              replace h := h hI (mokI (hr _ rfl))
              clear hq hr
              exact y_iret 99 Y dX6_graft_99 rfl h
            · replace h := h.2 c
              refine y_iconst 88 Y dX6_graft_88 rfl ?_
              exact y_iret 89 Y dX6_graft_89 rfl h
          · replace h := h.2 c
            refine y_iload 70 Y dX6_graft_70 rfl ?_
            refine y_bipush 72 Y dX6_graft_72 rfl ?_
            refine y_icmp 74 81 Y dX6_graft_74 rfl rfl (fun c => ?_) (fun c => ?_)
            · replace h := h.1 c
              refine y_iconst 81 Y dX6_graft_81 rfl ?_
              refine y_call 82 Y (as := [mi 0, mi 0, mi 0]) [] dX6_graft_82 rfl rfl rfl rfl rfl h (fun r S37 hq hI hr => ?_)
              obtain ⟨v38, rfl, h⟩ := Qi_ok hq
              replace h := h hI (mokI (hr _ rfl))
              clear hq hr
              refine y_if 85 90 Y dX6_graft_85 rfl rfl (fun c => ?_) (fun c => ?_)
              · replace h := h.1 c
                refine y_aload_n 90 Y dX6_graft_90 rfl ?_
                refine y_sipush 91 Y dX6_graft_91 rfl ?_
                refine y_iload 94 Y dX6_graft_94 rfl ?_
                refine y_call 96 Y (as := [mi 13540, mi v32]) [] dX6_graft_96 rfl rfl rfl rfl rfl h (fun r S39 hq hI hr => ?_)
                obtain ⟨v40, rfl, h⟩ := Qi_ok hq
                replace h := h hI (mokI (hr _ rfl))
                clear hq hr
                exact y_iret 99 Y dX6_graft_99 rfl h
              · replace h := h.2 c
                refine y_iconst 88 Y dX6_graft_88 rfl ?_
                exact y_iret 89 Y dX6_graft_89 rfl h
            · replace h := h.2 c
              refine y_iconst 77 Y dX6_graft_77 rfl ?_
              refine y_goto 78 82 Y dX6_graft_78 rfl rfl ?_
              refine y_call 82 Y (as := [mi 0, mi 0, mi 1]) [] dX6_graft_82 rfl rfl rfl rfl rfl h (fun r S41 hq hI hr => ?_)
              obtain ⟨v42, rfl, h⟩ := Qi_ok hq
              replace h := h hI (mokI (hr _ rfl))
              clear hq hr
              refine y_if 85 90 Y dX6_graft_85 rfl rfl (fun c => ?_) (fun c => ?_)
              · replace h := h.1 c
                refine y_aload_n 90 Y dX6_graft_90 rfl ?_
                refine y_sipush 91 Y dX6_graft_91 rfl ?_
                refine y_iload 94 Y dX6_graft_94 rfl ?_
                refine y_call 96 Y (as := [mi 13540, mi v32]) [] dX6_graft_96 rfl rfl rfl rfl rfl h (fun r S43 hq hI hr => ?_)
                obtain ⟨v44, rfl, h⟩ := Qi_ok hq
                replace h := h hI (mokI (hr _ rfl))
                clear hq hr
                exact y_iret 99 Y dX6_graft_99 rfl h
              · replace h := h.2 c
                refine y_iconst 88 Y dX6_graft_88 rfl ?_
                exact y_iret 89 Y dX6_graft_89 rfl h
        · replace h := h.2 c
          refine y_iconst 41 Y dX6_graft_41 rfl ?_
          exact y_iret 42 Y dX6_graft_42 rfl h
    · replace h := h.2 c
      refine y_aload_n 9 Y dX6_graft_9 rfl ?_
      refine y_iload_n 10 Y dX6_graft_10 rfl ?_
      refine y_call 11 Y (as := [mi a3]) [mt] dX6_graft_11 rfl rfl rfl rfl rfl h (fun r S45 hq hI hr => ?_)
      obtain ⟨v46, rfl, h⟩ := Qi_ok hq
      replace h := h hI (mokI (hr _ rfl))
      clear hq hr
      refine y_if 14 21 Y dX6_graft_14 rfl rfl (fun c => ?_) (fun c => ?_)
      · replace h := h.1 c
        refine y_iconst 21 Y dX6_graft_21 rfl ?_
        refine y_iload_n 22 Y dX6_graft_22 rfl ?_
        refine y_calls 23 Y (as := [mi a2]) [mi 0, mt] dX6_graft_23 rfl rfl rfl rfl rfl h (fun r S47 hq hI hr => ?_)
        obtain ⟨v48, rfl, h⟩ := Qi_ok hq
        replace h := h hI (mokI (hr _ rfl))
        clear hq hr
        refine y_if 26 33 Y dX6_graft_26 rfl rfl (fun c => ?_) (fun c => ?_)
        · replace h := h.1 c
          refine y_iconst 33 Y dX6_graft_33 rfl ?_
          refine y_iconst 34 Y dX6_graft_34 rfl ?_
          refine y_call 35 Y (as := [mi 0, mi 0, mi 0]) [] dX6_graft_35 rfl rfl rfl rfl rfl h (fun r S49 hq hI hr => ?_)
          obtain ⟨v50, rfl, h⟩ := Qi_ok hq
          replace h := h hI (mokI (hr _ rfl))
          clear hq hr
          refine y_if 38 43 Y dX6_graft_38 rfl rfl (fun c => ?_) (fun c => ?_)
          · replace h := h.1 c
            refine y_aload_n 43 Y dX6_graft_43 rfl ?_
            refine y_iload_n 44 Y dX6_graft_44 rfl ?_
            refine y_calls 45 Y (as := [mi a1]) [mt] dX6_graft_45 rfl rfl rfl rfl rfl h (fun r S51 hq hI hr => ?_)
            obtain ⟨v52, rfl, h⟩ := Qi_ok hq
            replace h := h hI (mokI (hr _ rfl))
            clear hq hr
            refine y_iload_n 48 Y dX6_graft_48 rfl ?_
            refine y_iload_n 49 Y dX6_graft_49 rfl ?_
            refine y_calls 50 Y (as := [mi a3]) [mi a2, mi v52, mt] dX6_graft_50 rfl rfl rfl rfl rfl h (fun r S53 hq hI hr => ?_)
            obtain ⟨v54, rfl, h⟩ := Qi_ok hq
            replace h := h hI (mokI (hr _ rfl))
            clear hq hr
            refine y_call 53 Y (as := [mi v52, mi a2, mi v54]) [] dX6_graft_53 rfl rfl rfl rfl rfl h (fun r S55 hq hI hr => ?_)
            obtain ⟨v56, rfl, h⟩ := Qi_ok hq
            replace h := h hI (mokI (hr _ rfl))
            clear hq hr
            refine y_istore 56 Y [some mt, some (mi a1), some (mi a2), some (mi a3), some (mi v56)] dX6_graft_56 rfl rfl ?_
            refine y_aload_n 58 Y dX6_graft_58 rfl ?_
            refine y_iconst 59 Y dX6_graft_59 rfl ?_
            refine y_iconst 60 Y dX6_graft_60 rfl ?_
            refine y_aload_n 61 Y dX6_graft_61 rfl ?_
            refine y_getf 62 Y 10 dX6_graft_62 rfl rfl (fun _ => ?_)
            refine y_bipush 65 Y dX6_graft_65 rfl ?_
            refine y_icmp 67 77 Y dX6_graft_67 rfl rfl (fun c => ?_) (fun c => ?_)
            · replace h := h.1 c
              refine y_iconst 77 Y dX6_graft_77 rfl ?_
              refine y_goto 78 82 Y dX6_graft_78 rfl rfl ?_
              refine y_call 82 Y (as := [mi 0, mi 0, mi 1]) [] dX6_graft_82 rfl rfl rfl rfl rfl h (fun r S57 hq hI hr => ?_)
              obtain ⟨v58, rfl, h⟩ := Qi_ok hq
              replace h := h hI (mokI (hr _ rfl))
              clear hq hr
              refine y_if 85 90 Y dX6_graft_85 rfl rfl (fun c => ?_) (fun c => ?_)
              · replace h := h.1 c
                refine y_aload_n 90 Y dX6_graft_90 rfl ?_
                refine y_sipush 91 Y dX6_graft_91 rfl ?_
                refine y_iload 94 Y dX6_graft_94 rfl ?_
                refine y_call 96 Y (as := [mi 13540, mi v56]) [] dX6_graft_96 rfl rfl rfl rfl rfl h (fun r S59 hq hI hr => ?_)
                obtain ⟨v60, rfl, h⟩ := Qi_ok hq
                replace h := h hI (mokI (hr _ rfl))
                clear hq hr
                exact y_iret 99 Y dX6_graft_99 rfl h
              · replace h := h.2 c
                refine y_iconst 88 Y dX6_graft_88 rfl ?_
                exact y_iret 89 Y dX6_graft_89 rfl h
            · replace h := h.2 c
              refine y_iload 70 Y dX6_graft_70 rfl ?_
              refine y_bipush 72 Y dX6_graft_72 rfl ?_
              refine y_icmp 74 81 Y dX6_graft_74 rfl rfl (fun c => ?_) (fun c => ?_)
              · replace h := h.1 c
                refine y_iconst 81 Y dX6_graft_81 rfl ?_
                refine y_call 82 Y (as := [mi 0, mi 0, mi 0]) [] dX6_graft_82 rfl rfl rfl rfl rfl h (fun r S61 hq hI hr => ?_)
                obtain ⟨v62, rfl, h⟩ := Qi_ok hq
                replace h := h hI (mokI (hr _ rfl))
                clear hq hr
                refine y_if 85 90 Y dX6_graft_85 rfl rfl (fun c => ?_) (fun c => ?_)
                · replace h := h.1 c
                  refine y_aload_n 90 Y dX6_graft_90 rfl ?_
                  refine y_sipush 91 Y dX6_graft_91 rfl ?_
                  refine y_iload 94 Y dX6_graft_94 rfl ?_
                  refine y_call 96 Y (as := [mi 13540, mi v56]) [] dX6_graft_96 rfl rfl rfl rfl rfl h (fun r S63 hq hI hr => ?_)
                  obtain ⟨v64, rfl, h⟩ := Qi_ok hq
                  replace h := h hI (mokI (hr _ rfl))
                  clear hq hr
                  exact y_iret 99 Y dX6_graft_99 rfl h
                · replace h := h.2 c
                  refine y_iconst 88 Y dX6_graft_88 rfl ?_
                  exact y_iret 89 Y dX6_graft_89 rfl h
              · replace h := h.2 c
                refine y_iconst 77 Y dX6_graft_77 rfl ?_
                refine y_goto 78 82 Y dX6_graft_78 rfl rfl ?_
                refine y_call 82 Y (as := [mi 0, mi 0, mi 1]) [] dX6_graft_82 rfl rfl rfl rfl rfl h (fun r S65 hq hI hr => ?_)
                obtain ⟨v66, rfl, h⟩ := Qi_ok hq
                replace h := h hI (mokI (hr _ rfl))
                clear hq hr
                refine y_if 85 90 Y dX6_graft_85 rfl rfl (fun c => ?_) (fun c => ?_)
                · replace h := h.1 c
                  refine y_aload_n 90 Y dX6_graft_90 rfl ?_
                  refine y_sipush 91 Y dX6_graft_91 rfl ?_
                  refine y_iload 94 Y dX6_graft_94 rfl ?_
                  refine y_call 96 Y (as := [mi 13540, mi v56]) [] dX6_graft_96 rfl rfl rfl rfl rfl h (fun r S67 hq hI hr => ?_)
                  obtain ⟨v68, rfl, h⟩ := Qi_ok hq
                  replace h := h hI (mokI (hr _ rfl))
                  clear hq hr
                  exact y_iret 99 Y dX6_graft_99 rfl h
                · replace h := h.2 c
                  refine y_iconst 88 Y dX6_graft_88 rfl ?_
                  exact y_iret 89 Y dX6_graft_89 rfl h
          · replace h := h.2 c
            refine y_iconst 41 Y dX6_graft_41 rfl ?_
            exact y_iret 42 Y dX6_graft_42 rfl h
        · replace h := h.2 c
          refine y_iconst 29 Y dX6_graft_29 rfl ?_
          refine y_goto 30 34 Y dX6_graft_30 rfl rfl ?_
          refine y_iconst 34 Y dX6_graft_34 rfl ?_
          refine y_call 35 Y (as := [mi 0, mi 1, mi 0]) [] dX6_graft_35 rfl rfl rfl rfl rfl h (fun r S69 hq hI hr => ?_)
          obtain ⟨v70, rfl, h⟩ := Qi_ok hq
          replace h := h hI (mokI (hr _ rfl))
          clear hq hr
          refine y_if 38 43 Y dX6_graft_38 rfl rfl (fun c => ?_) (fun c => ?_)
          · replace h := h.1 c
            refine y_aload_n 43 Y dX6_graft_43 rfl ?_
            refine y_iload_n 44 Y dX6_graft_44 rfl ?_
            refine y_calls 45 Y (as := [mi a1]) [mt] dX6_graft_45 rfl rfl rfl rfl rfl h (fun r S71 hq hI hr => ?_)
            obtain ⟨v72, rfl, h⟩ := Qi_ok hq
            replace h := h hI (mokI (hr _ rfl))
            clear hq hr
            refine y_iload_n 48 Y dX6_graft_48 rfl ?_
            refine y_iload_n 49 Y dX6_graft_49 rfl ?_
            refine y_calls 50 Y (as := [mi a3]) [mi a2, mi v72, mt] dX6_graft_50 rfl rfl rfl rfl rfl h (fun r S73 hq hI hr => ?_)
            obtain ⟨v74, rfl, h⟩ := Qi_ok hq
            replace h := h hI (mokI (hr _ rfl))
            clear hq hr
            refine y_call 53 Y (as := [mi v72, mi a2, mi v74]) [] dX6_graft_53 rfl rfl rfl rfl rfl h (fun r S75 hq hI hr => ?_)
            obtain ⟨v76, rfl, h⟩ := Qi_ok hq
            replace h := h hI (mokI (hr _ rfl))
            clear hq hr
            refine y_istore 56 Y [some mt, some (mi a1), some (mi a2), some (mi a3), some (mi v76)] dX6_graft_56 rfl rfl ?_
            refine y_aload_n 58 Y dX6_graft_58 rfl ?_
            refine y_iconst 59 Y dX6_graft_59 rfl ?_
            refine y_iconst 60 Y dX6_graft_60 rfl ?_
            refine y_aload_n 61 Y dX6_graft_61 rfl ?_
            refine y_getf 62 Y 10 dX6_graft_62 rfl rfl (fun _ => ?_)
            refine y_bipush 65 Y dX6_graft_65 rfl ?_
            refine y_icmp 67 77 Y dX6_graft_67 rfl rfl (fun c => ?_) (fun c => ?_)
            · replace h := h.1 c
              refine y_iconst 77 Y dX6_graft_77 rfl ?_
              refine y_goto 78 82 Y dX6_graft_78 rfl rfl ?_
              refine y_call 82 Y (as := [mi 0, mi 0, mi 1]) [] dX6_graft_82 rfl rfl rfl rfl rfl h (fun r S77 hq hI hr => ?_)
              obtain ⟨v78, rfl, h⟩ := Qi_ok hq
              replace h := h hI (mokI (hr _ rfl))
              clear hq hr
              refine y_if 85 90 Y dX6_graft_85 rfl rfl (fun c => ?_) (fun c => ?_)
              · replace h := h.1 c
                refine y_aload_n 90 Y dX6_graft_90 rfl ?_
                refine y_sipush 91 Y dX6_graft_91 rfl ?_
                refine y_iload 94 Y dX6_graft_94 rfl ?_
                refine y_call 96 Y (as := [mi 13540, mi v76]) [] dX6_graft_96 rfl rfl rfl rfl rfl h (fun r S79 hq hI hr => ?_)
                obtain ⟨v80, rfl, h⟩ := Qi_ok hq
                replace h := h hI (mokI (hr _ rfl))
                clear hq hr
                exact y_iret 99 Y dX6_graft_99 rfl h
              · replace h := h.2 c
                refine y_iconst 88 Y dX6_graft_88 rfl ?_
                exact y_iret 89 Y dX6_graft_89 rfl h
            · replace h := h.2 c
              refine y_iload 70 Y dX6_graft_70 rfl ?_
              refine y_bipush 72 Y dX6_graft_72 rfl ?_
              refine y_icmp 74 81 Y dX6_graft_74 rfl rfl (fun c => ?_) (fun c => ?_)
              · replace h := h.1 c
                refine y_iconst 81 Y dX6_graft_81 rfl ?_
                refine y_call 82 Y (as := [mi 0, mi 0, mi 0]) [] dX6_graft_82 rfl rfl rfl rfl rfl h (fun r S81 hq hI hr => ?_)
                obtain ⟨v82, rfl, h⟩ := Qi_ok hq
                replace h := h hI (mokI (hr _ rfl))
                clear hq hr
                refine y_if 85 90 Y dX6_graft_85 rfl rfl (fun c => ?_) (fun c => ?_)
                · replace h := h.1 c
                  refine y_aload_n 90 Y dX6_graft_90 rfl ?_
                  refine y_sipush 91 Y dX6_graft_91 rfl ?_
                  refine y_iload 94 Y dX6_graft_94 rfl ?_
                  refine y_call 96 Y (as := [mi 13540, mi v76]) [] dX6_graft_96 rfl rfl rfl rfl rfl h (fun r S83 hq hI hr => ?_)
                  obtain ⟨v84, rfl, h⟩ := Qi_ok hq
                  replace h := h hI (mokI (hr _ rfl))
                  clear hq hr
                  exact y_iret 99 Y dX6_graft_99 rfl h
                · replace h := h.2 c
                  refine y_iconst 88 Y dX6_graft_88 rfl ?_
                  exact y_iret 89 Y dX6_graft_89 rfl h
              · replace h := h.2 c
                refine y_iconst 77 Y dX6_graft_77 rfl ?_
                refine y_goto 78 82 Y dX6_graft_78 rfl rfl ?_
                refine y_call 82 Y (as := [mi 0, mi 0, mi 1]) [] dX6_graft_82 rfl rfl rfl rfl rfl h (fun r S85 hq hI hr => ?_)
                obtain ⟨v86, rfl, h⟩ := Qi_ok hq
                replace h := h hI (mokI (hr _ rfl))
                clear hq hr
                refine y_if 85 90 Y dX6_graft_85 rfl rfl (fun c => ?_) (fun c => ?_)
                · replace h := h.1 c
                  refine y_aload_n 90 Y dX6_graft_90 rfl ?_
                  refine y_sipush 91 Y dX6_graft_91 rfl ?_
                  refine y_iload 94 Y dX6_graft_94 rfl ?_
                  refine y_call 96 Y (as := [mi 13540, mi v76]) [] dX6_graft_96 rfl rfl rfl rfl rfl h (fun r S87 hq hI hr => ?_)
                  obtain ⟨v88, rfl, h⟩ := Qi_ok hq
                  replace h := h hI (mokI (hr _ rfl))
                  clear hq hr
                  exact y_iret 99 Y dX6_graft_99 rfl h
                · replace h := h.2 c
                  refine y_iconst 88 Y dX6_graft_88 rfl ?_
                  exact y_iret 89 Y dX6_graft_89 rfl h
          · replace h := h.2 c
            refine y_iconst 41 Y dX6_graft_41 rfl ?_
            exact y_iret 42 Y dX6_graft_42 rfl h
      · replace h := h.2 c
        refine y_iconst 17 Y dX6_graft_17 rfl ?_
        refine y_goto 18 22 Y dX6_graft_18 rfl rfl ?_
        refine y_iload_n 22 Y dX6_graft_22 rfl ?_
        refine y_calls 23 Y (as := [mi a2]) [mi 1, mt] dX6_graft_23 rfl rfl rfl rfl rfl h (fun r S89 hq hI hr => ?_)
        obtain ⟨v90, rfl, h⟩ := Qi_ok hq
        replace h := h hI (mokI (hr _ rfl))
        clear hq hr
        refine y_if 26 33 Y dX6_graft_26 rfl rfl (fun c => ?_) (fun c => ?_)
        · replace h := h.1 c
          refine y_iconst 33 Y dX6_graft_33 rfl ?_
          refine y_iconst 34 Y dX6_graft_34 rfl ?_
          refine y_call 35 Y (as := [mi 1, mi 0, mi 0]) [] dX6_graft_35 rfl rfl rfl rfl rfl h (fun r S91 hq hI hr => ?_)
          obtain ⟨v92, rfl, h⟩ := Qi_ok hq
          replace h := h hI (mokI (hr _ rfl))
          clear hq hr
          refine y_if 38 43 Y dX6_graft_38 rfl rfl (fun c => ?_) (fun c => ?_)
          · replace h := h.1 c
            refine y_aload_n 43 Y dX6_graft_43 rfl ?_
            refine y_iload_n 44 Y dX6_graft_44 rfl ?_
            refine y_calls 45 Y (as := [mi a1]) [mt] dX6_graft_45 rfl rfl rfl rfl rfl h (fun r S93 hq hI hr => ?_)
            obtain ⟨v94, rfl, h⟩ := Qi_ok hq
            replace h := h hI (mokI (hr _ rfl))
            clear hq hr
            refine y_iload_n 48 Y dX6_graft_48 rfl ?_
            refine y_iload_n 49 Y dX6_graft_49 rfl ?_
            refine y_calls 50 Y (as := [mi a3]) [mi a2, mi v94, mt] dX6_graft_50 rfl rfl rfl rfl rfl h (fun r S95 hq hI hr => ?_)
            obtain ⟨v96, rfl, h⟩ := Qi_ok hq
            replace h := h hI (mokI (hr _ rfl))
            clear hq hr
            refine y_call 53 Y (as := [mi v94, mi a2, mi v96]) [] dX6_graft_53 rfl rfl rfl rfl rfl h (fun r S97 hq hI hr => ?_)
            obtain ⟨v98, rfl, h⟩ := Qi_ok hq
            replace h := h hI (mokI (hr _ rfl))
            clear hq hr
            refine y_istore 56 Y [some mt, some (mi a1), some (mi a2), some (mi a3), some (mi v98)] dX6_graft_56 rfl rfl ?_
            refine y_aload_n 58 Y dX6_graft_58 rfl ?_
            refine y_iconst 59 Y dX6_graft_59 rfl ?_
            refine y_iconst 60 Y dX6_graft_60 rfl ?_
            refine y_aload_n 61 Y dX6_graft_61 rfl ?_
            refine y_getf 62 Y 10 dX6_graft_62 rfl rfl (fun _ => ?_)
            refine y_bipush 65 Y dX6_graft_65 rfl ?_
            refine y_icmp 67 77 Y dX6_graft_67 rfl rfl (fun c => ?_) (fun c => ?_)
            · replace h := h.1 c
              refine y_iconst 77 Y dX6_graft_77 rfl ?_
              refine y_goto 78 82 Y dX6_graft_78 rfl rfl ?_
              refine y_call 82 Y (as := [mi 0, mi 0, mi 1]) [] dX6_graft_82 rfl rfl rfl rfl rfl h (fun r S99 hq hI hr => ?_)
              obtain ⟨v100, rfl, h⟩ := Qi_ok hq
              replace h := h hI (mokI (hr _ rfl))
              clear hq hr
              refine y_if 85 90 Y dX6_graft_85 rfl rfl (fun c => ?_) (fun c => ?_)
              · replace h := h.1 c
                refine y_aload_n 90 Y dX6_graft_90 rfl ?_
                refine y_sipush 91 Y dX6_graft_91 rfl ?_
                refine y_iload 94 Y dX6_graft_94 rfl ?_
                refine y_call 96 Y (as := [mi 13540, mi v98]) [] dX6_graft_96 rfl rfl rfl rfl rfl h (fun r S101 hq hI hr => ?_)
                obtain ⟨v102, rfl, h⟩ := Qi_ok hq
                replace h := h hI (mokI (hr _ rfl))
                clear hq hr
                exact y_iret 99 Y dX6_graft_99 rfl h
              · replace h := h.2 c
                refine y_iconst 88 Y dX6_graft_88 rfl ?_
                exact y_iret 89 Y dX6_graft_89 rfl h
            · replace h := h.2 c
              refine y_iload 70 Y dX6_graft_70 rfl ?_
              refine y_bipush 72 Y dX6_graft_72 rfl ?_
              refine y_icmp 74 81 Y dX6_graft_74 rfl rfl (fun c => ?_) (fun c => ?_)
              · replace h := h.1 c
                refine y_iconst 81 Y dX6_graft_81 rfl ?_
                refine y_call 82 Y (as := [mi 0, mi 0, mi 0]) [] dX6_graft_82 rfl rfl rfl rfl rfl h (fun r S103 hq hI hr => ?_)
                obtain ⟨v104, rfl, h⟩ := Qi_ok hq
                replace h := h hI (mokI (hr _ rfl))
                clear hq hr
                refine y_if 85 90 Y dX6_graft_85 rfl rfl (fun c => ?_) (fun c => ?_)
                · replace h := h.1 c
                  refine y_aload_n 90 Y dX6_graft_90 rfl ?_
                  refine y_sipush 91 Y dX6_graft_91 rfl ?_
                  refine y_iload 94 Y dX6_graft_94 rfl ?_
                  refine y_call 96 Y (as := [mi 13540, mi v98]) [] dX6_graft_96 rfl rfl rfl rfl rfl h (fun r S105 hq hI hr => ?_)
                  obtain ⟨v106, rfl, h⟩ := Qi_ok hq
                  replace h := h hI (mokI (hr _ rfl))
                  clear hq hr
                  exact y_iret 99 Y dX6_graft_99 rfl h
                · replace h := h.2 c
                  refine y_iconst 88 Y dX6_graft_88 rfl ?_
                  exact y_iret 89 Y dX6_graft_89 rfl h
              · replace h := h.2 c
                refine y_iconst 77 Y dX6_graft_77 rfl ?_
                refine y_goto 78 82 Y dX6_graft_78 rfl rfl ?_
                refine y_call 82 Y (as := [mi 0, mi 0, mi 1]) [] dX6_graft_82 rfl rfl rfl rfl rfl h (fun r S107 hq hI hr => ?_)
                obtain ⟨v108, rfl, h⟩ := Qi_ok hq
                replace h := h hI (mokI (hr _ rfl))
                clear hq hr
                refine y_if 85 90 Y dX6_graft_85 rfl rfl (fun c => ?_) (fun c => ?_)
                · replace h := h.1 c
                  refine y_aload_n 90 Y dX6_graft_90 rfl ?_
                  refine y_sipush 91 Y dX6_graft_91 rfl ?_
                  refine y_iload 94 Y dX6_graft_94 rfl ?_
                  refine y_call 96 Y (as := [mi 13540, mi v98]) [] dX6_graft_96 rfl rfl rfl rfl rfl h (fun r S109 hq hI hr => ?_)
                  obtain ⟨v110, rfl, h⟩ := Qi_ok hq
                  replace h := h hI (mokI (hr _ rfl))
                  clear hq hr
                  exact y_iret 99 Y dX6_graft_99 rfl h
                · replace h := h.2 c
                  refine y_iconst 88 Y dX6_graft_88 rfl ?_
                  exact y_iret 89 Y dX6_graft_89 rfl h
          · replace h := h.2 c
            refine y_iconst 41 Y dX6_graft_41 rfl ?_
            exact y_iret 42 Y dX6_graft_42 rfl h
        · replace h := h.2 c
          refine y_iconst 29 Y dX6_graft_29 rfl ?_
          refine y_goto 30 34 Y dX6_graft_30 rfl rfl ?_
          refine y_iconst 34 Y dX6_graft_34 rfl ?_
          refine y_call 35 Y (as := [mi 1, mi 1, mi 0]) [] dX6_graft_35 rfl rfl rfl rfl rfl h (fun r S111 hq hI hr => ?_)
          obtain ⟨v112, rfl, h⟩ := Qi_ok hq
          replace h := h hI (mokI (hr _ rfl))
          clear hq hr
          refine y_if 38 43 Y dX6_graft_38 rfl rfl (fun c => ?_) (fun c => ?_)
          · replace h := h.1 c
            refine y_aload_n 43 Y dX6_graft_43 rfl ?_
            refine y_iload_n 44 Y dX6_graft_44 rfl ?_
            refine y_calls 45 Y (as := [mi a1]) [mt] dX6_graft_45 rfl rfl rfl rfl rfl h (fun r S113 hq hI hr => ?_)
            obtain ⟨v114, rfl, h⟩ := Qi_ok hq
            replace h := h hI (mokI (hr _ rfl))
            clear hq hr
            refine y_iload_n 48 Y dX6_graft_48 rfl ?_
            refine y_iload_n 49 Y dX6_graft_49 rfl ?_
            refine y_calls 50 Y (as := [mi a3]) [mi a2, mi v114, mt] dX6_graft_50 rfl rfl rfl rfl rfl h (fun r S115 hq hI hr => ?_)
            obtain ⟨v116, rfl, h⟩ := Qi_ok hq
            replace h := h hI (mokI (hr _ rfl))
            clear hq hr
            refine y_call 53 Y (as := [mi v114, mi a2, mi v116]) [] dX6_graft_53 rfl rfl rfl rfl rfl h (fun r S117 hq hI hr => ?_)
            obtain ⟨v118, rfl, h⟩ := Qi_ok hq
            replace h := h hI (mokI (hr _ rfl))
            clear hq hr
            refine y_istore 56 Y [some mt, some (mi a1), some (mi a2), some (mi a3), some (mi v118)] dX6_graft_56 rfl rfl ?_
            refine y_aload_n 58 Y dX6_graft_58 rfl ?_
            refine y_iconst 59 Y dX6_graft_59 rfl ?_
            refine y_iconst 60 Y dX6_graft_60 rfl ?_
            refine y_aload_n 61 Y dX6_graft_61 rfl ?_
            refine y_getf 62 Y 10 dX6_graft_62 rfl rfl (fun _ => ?_)
            refine y_bipush 65 Y dX6_graft_65 rfl ?_
            refine y_icmp 67 77 Y dX6_graft_67 rfl rfl (fun c => ?_) (fun c => ?_)
            · replace h := h.1 c
              refine y_iconst 77 Y dX6_graft_77 rfl ?_
              refine y_goto 78 82 Y dX6_graft_78 rfl rfl ?_
              refine y_call 82 Y (as := [mi 0, mi 0, mi 1]) [] dX6_graft_82 rfl rfl rfl rfl rfl h (fun r S119 hq hI hr => ?_)
              obtain ⟨v120, rfl, h⟩ := Qi_ok hq
              replace h := h hI (mokI (hr _ rfl))
              clear hq hr
              refine y_if 85 90 Y dX6_graft_85 rfl rfl (fun c => ?_) (fun c => ?_)
              · replace h := h.1 c
                refine y_aload_n 90 Y dX6_graft_90 rfl ?_
                refine y_sipush 91 Y dX6_graft_91 rfl ?_
                refine y_iload 94 Y dX6_graft_94 rfl ?_
                refine y_call 96 Y (as := [mi 13540, mi v118]) [] dX6_graft_96 rfl rfl rfl rfl rfl h (fun r S121 hq hI hr => ?_)
                obtain ⟨v122, rfl, h⟩ := Qi_ok hq
                replace h := h hI (mokI (hr _ rfl))
                clear hq hr
                exact y_iret 99 Y dX6_graft_99 rfl h
              · replace h := h.2 c
                refine y_iconst 88 Y dX6_graft_88 rfl ?_
                exact y_iret 89 Y dX6_graft_89 rfl h
            · replace h := h.2 c
              refine y_iload 70 Y dX6_graft_70 rfl ?_
              refine y_bipush 72 Y dX6_graft_72 rfl ?_
              refine y_icmp 74 81 Y dX6_graft_74 rfl rfl (fun c => ?_) (fun c => ?_)
              · replace h := h.1 c
                refine y_iconst 81 Y dX6_graft_81 rfl ?_
                refine y_call 82 Y (as := [mi 0, mi 0, mi 0]) [] dX6_graft_82 rfl rfl rfl rfl rfl h (fun r S123 hq hI hr => ?_)
                obtain ⟨v124, rfl, h⟩ := Qi_ok hq
                replace h := h hI (mokI (hr _ rfl))
                clear hq hr
                refine y_if 85 90 Y dX6_graft_85 rfl rfl (fun c => ?_) (fun c => ?_)
                · replace h := h.1 c
                  refine y_aload_n 90 Y dX6_graft_90 rfl ?_
                  refine y_sipush 91 Y dX6_graft_91 rfl ?_
                  refine y_iload 94 Y dX6_graft_94 rfl ?_
                  refine y_call 96 Y (as := [mi 13540, mi v118]) [] dX6_graft_96 rfl rfl rfl rfl rfl h (fun r S125 hq hI hr => ?_)
                  obtain ⟨v126, rfl, h⟩ := Qi_ok hq
                  replace h := h hI (mokI (hr _ rfl))
                  clear hq hr
                  exact y_iret 99 Y dX6_graft_99 rfl h
                · replace h := h.2 c
                  refine y_iconst 88 Y dX6_graft_88 rfl ?_
                  exact y_iret 89 Y dX6_graft_89 rfl h
              · replace h := h.2 c
                refine y_iconst 77 Y dX6_graft_77 rfl ?_
                refine y_goto 78 82 Y dX6_graft_78 rfl rfl ?_
                refine y_call 82 Y (as := [mi 0, mi 0, mi 1]) [] dX6_graft_82 rfl rfl rfl rfl rfl h (fun r S127 hq hI hr => ?_)
                obtain ⟨v128, rfl, h⟩ := Qi_ok hq
                replace h := h hI (mokI (hr _ rfl))
                clear hq hr
                refine y_if 85 90 Y dX6_graft_85 rfl rfl (fun c => ?_) (fun c => ?_)
                · replace h := h.1 c
                  refine y_aload_n 90 Y dX6_graft_90 rfl ?_
                  refine y_sipush 91 Y dX6_graft_91 rfl ?_
                  refine y_iload 94 Y dX6_graft_94 rfl ?_
                  refine y_call 96 Y (as := [mi 13540, mi v118]) [] dX6_graft_96 rfl rfl rfl rfl rfl h (fun r S129 hq hI hr => ?_)
                  obtain ⟨v130, rfl, h⟩ := Qi_ok hq
                  replace h := h hI (mokI (hr _ rfl))
                  clear hq hr
                  exact y_iret 99 Y dX6_graft_99 rfl h
                · replace h := h.2 c
                  refine y_iconst 88 Y dX6_graft_88 rfl ?_
                  exact y_iret 89 Y dX6_graft_89 rfl h
          · replace h := h.2 c
            refine y_iconst 41 Y dX6_graft_41 rfl ?_
            exact y_iret 42 Y dX6_graft_42 rfl h
  · intro n pc L st T hi
    exact hi.elim
set_option maxHeartbeats 4000000 in
theorem of_isNeither {g : mG} {S : mS} {a1 : Int} {Qp : Option mV → mS → Prop}
    (hE : mI S → (-2147483648 ≤ a1 ∧ a1 ≤ 2147483647) → (-2147483648 ≤ (((S 36 0) - 1) : Int) ∧ ((S 36 0) - 1) ≤ 2147483647) ∧ (0 ≤ ((S 36 0) - 1)) ∧ (((S 36 0) - 1) < 100) ∧ (((S 35 ((S 36 0) - 1)) ≠ 0) → Qp (some (mi 0)) S) ∧ (¬ ((S 35 ((S 36 0) - 1)) ≠ 0) → (0 ≤ (S 34 ((S 36 0) - 1))) ∧ ((S 34 ((S 36 0) - 1)) < 100) ∧ (((S 27 (S 34 ((S 36 0) - 1))) ≠ 3) → Qp (some (mi 0)) S) ∧ (¬ ((S 27 (S 34 ((S 36 0) - 1))) ≠ 3) → (((S 29 (S 34 ((S 36 0) - 1))) ≠ 2) → Qp (some (mi 0)) S) ∧ (¬ ((S 29 (S 34 ((S 36 0) - 1))) ≠ 2) → CX_rankOf g [mt, mi (S 28 (S 34 ((S 36 0) - 1))), mi 2] S (Qi fun v7 S6 => mI S6 → (-2147483648 ≤ v7 ∧ v7 ≤ 2147483647) → ((v7 ≠ a1) → Qp (some (mi 0)) S6) ∧ (¬ (v7 ≠ a1) → Qp (some (mi 1)) S6))))))
    : CX_isNeither g [mt, mi a1] S Qp := by
  refine cm_y ⟨by decide, rfl⟩ (by simp [mcat]) (by simp) (fun _ _ _ _ _ => False) ?_ ?_
  · intro ha hS P Y Wk hIc
    have h := hE hS (mokI (ha (mi a1) (by simp)))
    clear hE ha
    refine y_aload_n 0 Y dX6_isNeither_0 rfl ?_
    refine y_geta 1 Y 34 dX6_isNeither_1 rfl rfl ?_
    refine y_aload_n 4 Y dX6_isNeither_4 rfl ?_
    refine y_getf 5 Y 36 dX6_isNeither_5 rfl rfl (fun _ => ?_)
    refine y_iconst 8 Y dX6_isNeither_8 rfl ?_
    obtain ⟨o1, h⟩ := h
    refine y_isub 9 Y dX6_isNeither_9 o1 ?_
    obtain ⟨o2, h⟩ := h
    obtain ⟨o3, h⟩ := h
    refine y_iald 10 Y dX6_isNeither_10 rfl rfl o2 o3 (fun _ => ?_)
    refine y_istore_n 11 Y [some mt, some (mi a1), some (mi (S 34 ((S 36 0) - 1)))] dX6_isNeither_11 rfl rfl ?_
    refine y_aload_n 12 Y dX6_isNeither_12 rfl ?_
    refine y_geta 13 Y 35 dX6_isNeither_13 rfl rfl ?_
    refine y_aload_n 16 Y dX6_isNeither_16 rfl ?_
    refine y_getf 17 Y 36 dX6_isNeither_17 rfl rfl (fun _ => ?_)
    refine y_iconst 20 Y dX6_isNeither_20 rfl ?_
    refine y_isub 21 Y dX6_isNeither_21 o1 ?_
    refine y_bald 22 Y dX6_isNeither_22 rfl rfl o2 o3 (fun _ => ?_)
    refine y_if 23 65 Y dX6_isNeither_23 rfl rfl (fun c => ?_) (fun c => ?_)
    · replace h := h.1 c
      refine y_iconst 65 Y dX6_isNeither_65 rfl ?_
      exact y_zret 66 Y dX6_isNeither_66 rfl (by decide) h
    · replace h := h.2 c
      refine y_aload_n 26 Y dX6_isNeither_26 rfl ?_
      refine y_geta 27 Y 27 dX6_isNeither_27 rfl rfl ?_
      refine y_iload_n 30 Y dX6_isNeither_30 rfl ?_
      obtain ⟨o4, h⟩ := h
      obtain ⟨o5, h⟩ := h
      refine y_iald 31 Y dX6_isNeither_31 rfl rfl o4 o5 (fun _ => ?_)
      refine y_iconst 32 Y dX6_isNeither_32 rfl ?_
      refine y_icmp 33 65 Y dX6_isNeither_33 rfl rfl (fun c => ?_) (fun c => ?_)
      · replace h := h.1 c
        refine y_iconst 65 Y dX6_isNeither_65 rfl ?_
        exact y_zret 66 Y dX6_isNeither_66 rfl (by decide) h
      · replace h := h.2 c
        refine y_aload_n 36 Y dX6_isNeither_36 rfl ?_
        refine y_geta 37 Y 29 dX6_isNeither_37 rfl rfl ?_
        refine y_iload_n 40 Y dX6_isNeither_40 rfl ?_
        refine y_iald 41 Y dX6_isNeither_41 rfl rfl o4 o5 (fun _ => ?_)
        refine y_iconst 42 Y dX6_isNeither_42 rfl ?_
        refine y_icmp 43 65 Y dX6_isNeither_43 rfl rfl (fun c => ?_) (fun c => ?_)
        · replace h := h.1 c
          refine y_iconst 65 Y dX6_isNeither_65 rfl ?_
          exact y_zret 66 Y dX6_isNeither_66 rfl (by decide) h
        · replace h := h.2 c
          refine y_aload_n 46 Y dX6_isNeither_46 rfl ?_
          refine y_aload_n 47 Y dX6_isNeither_47 rfl ?_
          refine y_geta 48 Y 28 dX6_isNeither_48 rfl rfl ?_
          refine y_iload_n 51 Y dX6_isNeither_51 rfl ?_
          refine y_iald 52 Y dX6_isNeither_52 rfl rfl o4 o5 (fun _ => ?_)
          refine y_iconst 53 Y dX6_isNeither_53 rfl ?_
          refine y_call 54 Y (as := [mi (S 28 (S 34 ((S 36 0) - 1))), mi 2]) [] dX6_isNeither_54 rfl rfl rfl rfl rfl h (fun r S6 hq hI hr => ?_)
          obtain ⟨v7, rfl, h⟩ := Qi_ok hq
          replace h := h hI (mokI (hr _ rfl))
          clear hq hr
          refine y_iload_n 57 Y dX6_isNeither_57 rfl ?_
          refine y_icmp 58 65 Y dX6_isNeither_58 rfl rfl (fun c => ?_) (fun c => ?_)
          · replace h := h.1 c
            refine y_iconst 65 Y dX6_isNeither_65 rfl ?_
            exact y_zret 66 Y dX6_isNeither_66 rfl (by decide) h
          · replace h := h.2 c
            refine y_iconst 61 Y dX6_isNeither_61 rfl ?_
            refine y_goto 62 66 Y dX6_isNeither_62 rfl rfl ?_
            exact y_zret 66 Y dX6_isNeither_66 rfl (by decide) h
  · intro n pc L st T hi
    exact hi.elim
set_option maxHeartbeats 4000000 in
theorem of_isNode {g : mG} {S : mS} {a1 a2 : Int} {Qp : Option mV → mS → Prop}
    (hE : mI S → (-2147483648 ≤ a1 ∧ a1 ≤ 2147483647) → (-2147483648 ≤ a2 ∧ a2 ≤ 2147483647) → CX_isTree g [mt, mi a1] S (Qi fun v2 S1 => mI S1 → (-2147483648 ≤ v2 ∧ v2 ≤ 2147483647) → ((v2 = 0) → Qp (some (mi 0)) S1) ∧ (¬ (v2 = 0) → (0 ≤ a1) ∧ (a1 < 30) ∧ (-2147483648 ≤ (((S1 9 a1) - 1) : Int) ∧ ((S1 9 a1) - 1) ≤ 2147483647) ∧ CX_in g [mi a2, mi 0, mi ((S1 9 a1) - 1)] S1 (Qi fun v7 S6 => mI S6 → (-2147483648 ≤ v7 ∧ v7 ≤ 2147483647) → ((v7 = 0) → Qp (some (mi 0)) S6) ∧ (¬ (v7 = 0) → Qp (some (mi 1)) S6)))))
    : CX_isNode g [mt, mi a1, mi a2] S Qp := by
  refine cm_y ⟨by decide, rfl⟩ (by simp [mcat]) (by simp) (fun _ _ _ _ _ => False) ?_ ?_
  · intro ha hS P Y Wk hIc
    have h := hE hS (mokI (ha (mi a1) (by simp))) (mokI (ha (mi a2) (by simp)))
    clear hE ha
    refine y_aload_n 0 Y dX6_isNode_0 rfl ?_
    refine y_iload_n 1 Y dX6_isNode_1 rfl ?_
    refine y_call 2 Y (as := [mi a1]) [] dX6_isNode_2 rfl rfl rfl rfl rfl h (fun r S1 hq hI hr => ?_)
    obtain ⟨v2, rfl, h⟩ := Qi_ok hq
    replace h := h hI (mokI (hr _ rfl))
    clear hq hr
    refine y_if 5 28 Y dX6_isNode_5 rfl rfl (fun c => ?_) (fun c => ?_)
    · replace h := h.1 c
      refine y_iconst 28 Y dX6_isNode_28 rfl ?_
      exact y_zret 29 Y dX6_isNode_29 rfl (by decide) h
    · replace h := h.2 c
      refine y_iload_n 8 Y dX6_isNode_8 rfl ?_
      refine y_iconst 9 Y dX6_isNode_9 rfl ?_
      refine y_aload_n 10 Y dX6_isNode_10 rfl ?_
      refine y_geta 11 Y 9 dX6_isNode_11 rfl rfl ?_
      refine y_iload_n 14 Y dX6_isNode_14 rfl ?_
      obtain ⟨o3, h⟩ := h
      obtain ⟨o4, h⟩ := h
      refine y_iald 15 Y dX6_isNode_15 rfl rfl o3 o4 (fun _ => ?_)
      refine y_iconst 16 Y dX6_isNode_16 rfl ?_
      obtain ⟨o5, h⟩ := h
      refine y_isub 17 Y dX6_isNode_17 o5 ?_
      refine y_calls 18 Y (as := [mi a2, mi 0, mi ((S1 9 a1) - 1)]) [] dX6_isNode_18 rfl rfl rfl rfl rfl h (fun r S6 hq hI hr => ?_)
      obtain ⟨v7, rfl, h⟩ := Qi_ok hq
      replace h := h hI (mokI (hr _ rfl))
      clear hq hr
      refine y_if 21 28 Y dX6_isNode_21 rfl rfl (fun c => ?_) (fun c => ?_)
      · replace h := h.1 c
        refine y_iconst 28 Y dX6_isNode_28 rfl ?_
        exact y_zret 29 Y dX6_isNode_29 rfl (by decide) h
      · replace h := h.2 c
        refine y_iconst 24 Y dX6_isNode_24 rfl ?_
        refine y_goto 25 29 Y dX6_isNode_25 rfl rfl ?_
        exact y_zret 29 Y dX6_isNode_29 rfl (by decide) h
  · intro n pc L st T hi
    exact hi.elim
set_option maxHeartbeats 4000000 in
theorem of_isProduct {g : mG} {S : mS} {a1 : Int} {Qp : Option mV → mS → Prop}
    (hE : mI S → (-2147483648 ≤ a1 ∧ a1 ≤ 2147483647) → CX_meaningAt g [mt, mi a1] S (Qi fun v2 S1 => mI S1 → (-2147483648 ≤ v2 ∧ v2 ≤ 2147483647) → ((v2 ≠ 2) → Qp (some (mi 0)) S1) ∧ (¬ (v2 ≠ 2) → (-2147483648 ≤ ((a1 + 1) : Int) ∧ (a1 + 1) ≤ 2147483647) ∧ (0 ≤ (a1 + 1)) ∧ ((a1 + 1) < 20300) ∧ (((S1 4 (a1 + 1)) ≠ 0) → Qp (some (mi 0)) S1) ∧ (¬ ((S1 4 (a1 + 1)) ≠ 0) → Qp (some (mi 1)) S1))))
    : CX_isProduct g [mt, mi a1] S Qp := by
  refine cm_y ⟨by decide, rfl⟩ (by simp [mcat]) (by simp) (fun _ _ _ _ _ => False) ?_ ?_
  · intro ha hS P Y Wk hIc
    have h := hE hS (mokI (ha (mi a1) (by simp)))
    clear hE ha
    refine y_aload_n 0 Y dX6_isProduct_0 rfl ?_
    refine y_iload_n 1 Y dX6_isProduct_1 rfl ?_
    refine y_call 2 Y (as := [mi a1]) [] dX6_isProduct_2 rfl rfl rfl rfl rfl h (fun r S1 hq hI hr => ?_)
    obtain ⟨v2, rfl, h⟩ := Qi_ok hq
    replace h := h hI (mokI (hr _ rfl))
    clear hq hr
    refine y_iconst 5 Y dX6_isProduct_5 rfl ?_
    refine y_icmp 6 24 Y dX6_isProduct_6 rfl rfl (fun c => ?_) (fun c => ?_)
    · replace h := h.1 c
      refine y_iconst 24 Y dX6_isProduct_24 rfl ?_
      exact y_zret 25 Y dX6_isProduct_25 rfl (by decide) h
    · replace h := h.2 c
      refine y_aload_n 9 Y dX6_isProduct_9 rfl ?_
      refine y_geta 10 Y 4 dX6_isProduct_10 rfl rfl ?_
      refine y_iload_n 13 Y dX6_isProduct_13 rfl ?_
      refine y_iconst 14 Y dX6_isProduct_14 rfl ?_
      obtain ⟨o3, h⟩ := h
      refine y_iadd 15 Y dX6_isProduct_15 o3 ?_
      obtain ⟨o4, h⟩ := h
      obtain ⟨o5, h⟩ := h
      refine y_iald 16 Y dX6_isProduct_16 rfl rfl o4 o5 (fun _ => ?_)
      refine y_if 17 24 Y dX6_isProduct_17 rfl rfl (fun c => ?_) (fun c => ?_)
      · replace h := h.1 c
        refine y_iconst 24 Y dX6_isProduct_24 rfl ?_
        exact y_zret 25 Y dX6_isProduct_25 rfl (by decide) h
      · replace h := h.2 c
        refine y_iconst 20 Y dX6_isProduct_20 rfl ?_
        refine y_goto 21 25 Y dX6_isProduct_21 rfl rfl ?_
        exact y_zret 25 Y dX6_isProduct_25 rfl (by decide) h
  · intro n pc L st T hi
    exact hi.elim
set_option maxHeartbeats 4000000 in
theorem of_isSame {g : mG} {S : mS} {a1 a2 : Int} {Qp : Option mV → mS → Prop}
    (hE : mI S → (-2147483648 ≤ a1 ∧ a1 ≤ 2147483647) → (-2147483648 ≤ a2 ∧ a2 ≤ 2147483647) → CX_isTree g [mt, mi a1] S (Qi fun v2 S1 => mI S1 → (-2147483648 ≤ v2 ∧ v2 ≤ 2147483647) → ((v2 = 0) → CX_refused g [mt, mi 1, mi 0, mi 0] S1 (Qi fun v4 S3 => mI S3 → (-2147483648 ≤ v4 ∧ v4 ≤ 2147483647) → ((v4 ≠ 0) → Qp (some (mi 0)) S3) ∧ (¬ (v4 ≠ 0) → CX_shelf g [mi a1] S3 (Qi fun v6 S5 => mI S5 → (-2147483648 ≤ v6 ∧ v6 ≤ 2147483647) → CX_shelf g [mi a2] S5 (Qi fun v8 S7 => mI S7 → (-2147483648 ≤ v8 ∧ v8 ≤ 2147483647) → CX_areSame g [mt, mi v6, mi v8] S7 (Qi fun v10 S9 => mI S9 → (-2147483648 ≤ v10 ∧ v10 ≤ 2147483647) → ((v10 = 0) → Qp (some (mi 0)) S9) ∧ (¬ (v10 = 0) → Qp (some (mi 1)) S9))))))) ∧ (¬ (v2 = 0) → CX_isTree g [mt, mi a2] S1 (Qi fun v12 S11 => mI S11 → (-2147483648 ≤ v12 ∧ v12 ≤ 2147483647) → ((v12 ≠ 0) → CX_refused g [mt, mi 0, mi 0, mi 0] S11 (Qi fun v14 S13 => mI S13 → (-2147483648 ≤ v14 ∧ v14 ≤ 2147483647) → ((v14 ≠ 0) → Qp (some (mi 0)) S13) ∧ (¬ (v14 ≠ 0) → CX_shelf g [mi a1] S13 (Qi fun v16 S15 => mI S15 → (-2147483648 ≤ v16 ∧ v16 ≤ 2147483647) → CX_shelf g [mi a2] S15 (Qi fun v18 S17 => mI S17 → (-2147483648 ≤ v18 ∧ v18 ≤ 2147483647) → CX_areSame g [mt, mi v16, mi v18] S17 (Qi fun v20 S19 => mI S19 → (-2147483648 ≤ v20 ∧ v20 ≤ 2147483647) → ((v20 = 0) → Qp (some (mi 0)) S19) ∧ (¬ (v20 = 0) → Qp (some (mi 1)) S19))))))) ∧ (¬ (v12 ≠ 0) → CX_refused g [mt, mi 1, mi 0, mi 0] S11 (Qi fun v22 S21 => mI S21 → (-2147483648 ≤ v22 ∧ v22 ≤ 2147483647) → ((v22 ≠ 0) → Qp (some (mi 0)) S21) ∧ (¬ (v22 ≠ 0) → CX_shelf g [mi a1] S21 (Qi fun v24 S23 => mI S23 → (-2147483648 ≤ v24 ∧ v24 ≤ 2147483647) → CX_shelf g [mi a2] S23 (Qi fun v26 S25 => mI S25 → (-2147483648 ≤ v26 ∧ v26 ≤ 2147483647) → CX_areSame g [mt, mi v24, mi v26] S25 (Qi fun v28 S27 => mI S27 → (-2147483648 ≤ v28 ∧ v28 ≤ 2147483647) → ((v28 = 0) → Qp (some (mi 0)) S27) ∧ (¬ (v28 = 0) → Qp (some (mi 1)) S27)))))))))))
    : CX_isSame g [mt, mi a1, mi a2] S Qp := by
  refine cm_y ⟨by decide, rfl⟩ (by simp [mcat]) (by simp) (fun _ _ _ _ _ => False) ?_ ?_
  · intro ha hS P Y Wk hIc
    have h := hE hS (mokI (ha (mi a1) (by simp))) (mokI (ha (mi a2) (by simp)))
    clear hE ha
    refine y_aload_n 0 Y dX6_isSame_0 rfl ?_
    refine y_aload_n 1 Y dX6_isSame_1 rfl ?_
    refine y_iload_n 2 Y dX6_isSame_2 rfl ?_
    refine y_call 3 Y (as := [mi a1]) [mt] dX6_isSame_3 rfl rfl rfl rfl rfl h (fun r S1 hq hI hr => ?_)
    obtain ⟨v2, rfl, h⟩ := Qi_ok hq
    replace h := h hI (mokI (hr _ rfl))
    clear hq hr
    refine y_if 6 17 Y dX6_isSame_6 rfl rfl (fun c => ?_) (fun c => ?_)
    · replace h := h.1 c
      refine y_iconst 17 Y dX6_isSame_17 rfl ?_
      refine y_goto 18 22 Y dX6_isSame_18 rfl rfl ?_
      refine y_iconst 22 Y dX6_isSame_22 rfl ?_
      refine y_iconst 23 Y dX6_isSame_23 rfl ?_
      refine y_call 24 Y (as := [mi 1, mi 0, mi 0]) [] dX6_isSame_24 rfl rfl rfl rfl rfl h (fun r S3 hq hI hr => ?_)
      obtain ⟨v4, rfl, h⟩ := Qi_ok hq
      replace h := h hI (mokI (hr _ rfl))
      clear hq hr
      refine y_if 27 49 Y dX6_isSame_27 rfl rfl (fun c => ?_) (fun c => ?_)
      · replace h := h.1 c
        refine y_iconst 49 Y dX6_isSame_49 rfl ?_
        exact y_zret 50 Y dX6_isSame_50 rfl (by decide) h
      · replace h := h.2 c
        refine y_aload_n 30 Y dX6_isSame_30 rfl ?_
        refine y_iload_n 31 Y dX6_isSame_31 rfl ?_
        refine y_calls 32 Y (as := [mi a1]) [mt] dX6_isSame_32 rfl rfl rfl rfl rfl h (fun r S5 hq hI hr => ?_)
        obtain ⟨v6, rfl, h⟩ := Qi_ok hq
        replace h := h hI (mokI (hr _ rfl))
        clear hq hr
        refine y_iload_n 35 Y dX6_isSame_35 rfl ?_
        refine y_calls 36 Y (as := [mi a2]) [mi v6, mt] dX6_isSame_36 rfl rfl rfl rfl rfl h (fun r S7 hq hI hr => ?_)
        obtain ⟨v8, rfl, h⟩ := Qi_ok hq
        replace h := h hI (mokI (hr _ rfl))
        clear hq hr
        refine y_call 39 Y (as := [mi v6, mi v8]) [] dX6_isSame_39 rfl rfl rfl rfl rfl h (fun r S9 hq hI hr => ?_)
        obtain ⟨v10, rfl, h⟩ := Qi_ok hq
        replace h := h hI (mokI (hr _ rfl))
        clear hq hr
        refine y_if 42 49 Y dX6_isSame_42 rfl rfl (fun c => ?_) (fun c => ?_)
        · replace h := h.1 c
          refine y_iconst 49 Y dX6_isSame_49 rfl ?_
          exact y_zret 50 Y dX6_isSame_50 rfl (by decide) h
        · replace h := h.2 c
          refine y_iconst 45 Y dX6_isSame_45 rfl ?_
          refine y_goto 46 50 Y dX6_isSame_46 rfl rfl ?_
          exact y_zret 50 Y dX6_isSame_50 rfl (by decide) h
    · replace h := h.2 c
      refine y_aload_n 9 Y dX6_isSame_9 rfl ?_
      refine y_iload_n 10 Y dX6_isSame_10 rfl ?_
      refine y_call 11 Y (as := [mi a2]) [mt] dX6_isSame_11 rfl rfl rfl rfl rfl h (fun r S11 hq hI hr => ?_)
      obtain ⟨v12, rfl, h⟩ := Qi_ok hq
      replace h := h hI (mokI (hr _ rfl))
      clear hq hr
      refine y_if 14 21 Y dX6_isSame_14 rfl rfl (fun c => ?_) (fun c => ?_)
      · replace h := h.1 c
        refine y_iconst 21 Y dX6_isSame_21 rfl ?_
        refine y_iconst 22 Y dX6_isSame_22 rfl ?_
        refine y_iconst 23 Y dX6_isSame_23 rfl ?_
        refine y_call 24 Y (as := [mi 0, mi 0, mi 0]) [] dX6_isSame_24 rfl rfl rfl rfl rfl h (fun r S13 hq hI hr => ?_)
        obtain ⟨v14, rfl, h⟩ := Qi_ok hq
        replace h := h hI (mokI (hr _ rfl))
        clear hq hr
        refine y_if 27 49 Y dX6_isSame_27 rfl rfl (fun c => ?_) (fun c => ?_)
        · replace h := h.1 c
          refine y_iconst 49 Y dX6_isSame_49 rfl ?_
          exact y_zret 50 Y dX6_isSame_50 rfl (by decide) h
        · replace h := h.2 c
          refine y_aload_n 30 Y dX6_isSame_30 rfl ?_
          refine y_iload_n 31 Y dX6_isSame_31 rfl ?_
          refine y_calls 32 Y (as := [mi a1]) [mt] dX6_isSame_32 rfl rfl rfl rfl rfl h (fun r S15 hq hI hr => ?_)
          obtain ⟨v16, rfl, h⟩ := Qi_ok hq
          replace h := h hI (mokI (hr _ rfl))
          clear hq hr
          refine y_iload_n 35 Y dX6_isSame_35 rfl ?_
          refine y_calls 36 Y (as := [mi a2]) [mi v16, mt] dX6_isSame_36 rfl rfl rfl rfl rfl h (fun r S17 hq hI hr => ?_)
          obtain ⟨v18, rfl, h⟩ := Qi_ok hq
          replace h := h hI (mokI (hr _ rfl))
          clear hq hr
          refine y_call 39 Y (as := [mi v16, mi v18]) [] dX6_isSame_39 rfl rfl rfl rfl rfl h (fun r S19 hq hI hr => ?_)
          obtain ⟨v20, rfl, h⟩ := Qi_ok hq
          replace h := h hI (mokI (hr _ rfl))
          clear hq hr
          refine y_if 42 49 Y dX6_isSame_42 rfl rfl (fun c => ?_) (fun c => ?_)
          · replace h := h.1 c
            refine y_iconst 49 Y dX6_isSame_49 rfl ?_
            exact y_zret 50 Y dX6_isSame_50 rfl (by decide) h
          · replace h := h.2 c
            refine y_iconst 45 Y dX6_isSame_45 rfl ?_
            refine y_goto 46 50 Y dX6_isSame_46 rfl rfl ?_
            exact y_zret 50 Y dX6_isSame_50 rfl (by decide) h
      · replace h := h.2 c
        refine y_iconst 17 Y dX6_isSame_17 rfl ?_
        refine y_goto 18 22 Y dX6_isSame_18 rfl rfl ?_
        refine y_iconst 22 Y dX6_isSame_22 rfl ?_
        refine y_iconst 23 Y dX6_isSame_23 rfl ?_
        refine y_call 24 Y (as := [mi 1, mi 0, mi 0]) [] dX6_isSame_24 rfl rfl rfl rfl rfl h (fun r S21 hq hI hr => ?_)
        obtain ⟨v22, rfl, h⟩ := Qi_ok hq
        replace h := h hI (mokI (hr _ rfl))
        clear hq hr
        refine y_if 27 49 Y dX6_isSame_27 rfl rfl (fun c => ?_) (fun c => ?_)
        · replace h := h.1 c
          refine y_iconst 49 Y dX6_isSame_49 rfl ?_
          exact y_zret 50 Y dX6_isSame_50 rfl (by decide) h
        · replace h := h.2 c
          refine y_aload_n 30 Y dX6_isSame_30 rfl ?_
          refine y_iload_n 31 Y dX6_isSame_31 rfl ?_
          refine y_calls 32 Y (as := [mi a1]) [mt] dX6_isSame_32 rfl rfl rfl rfl rfl h (fun r S23 hq hI hr => ?_)
          obtain ⟨v24, rfl, h⟩ := Qi_ok hq
          replace h := h hI (mokI (hr _ rfl))
          clear hq hr
          refine y_iload_n 35 Y dX6_isSame_35 rfl ?_
          refine y_calls 36 Y (as := [mi a2]) [mi v24, mt] dX6_isSame_36 rfl rfl rfl rfl rfl h (fun r S25 hq hI hr => ?_)
          obtain ⟨v26, rfl, h⟩ := Qi_ok hq
          replace h := h hI (mokI (hr _ rfl))
          clear hq hr
          refine y_call 39 Y (as := [mi v24, mi v26]) [] dX6_isSame_39 rfl rfl rfl rfl rfl h (fun r S27 hq hI hr => ?_)
          obtain ⟨v28, rfl, h⟩ := Qi_ok hq
          replace h := h hI (mokI (hr _ rfl))
          clear hq hr
          refine y_if 42 49 Y dX6_isSame_42 rfl rfl (fun c => ?_) (fun c => ?_)
          · replace h := h.1 c
            refine y_iconst 49 Y dX6_isSame_49 rfl ?_
            exact y_zret 50 Y dX6_isSame_50 rfl (by decide) h
          · replace h := h.2 c
            refine y_iconst 45 Y dX6_isSame_45 rfl ?_
            refine y_goto 46 50 Y dX6_isSame_46 rfl rfl ?_
            exact y_zret 50 Y dX6_isSame_50 rfl (by decide) h
  · intro n pc L st T hi
    exact hi.elim
set_option maxHeartbeats 4000000 in
theorem of_isTold {g : mG} {S : mS} {a1 : Int} {Qp : Option mV → mS → Prop}
    (hE : mI S → (-2147483648 ≤ a1 ∧ a1 ≤ 2147483647) → CX_meaningAt g [mt, mi a1] S (Qi fun v2 S1 => mI S1 → (-2147483648 ≤ v2 ∧ v2 ≤ 2147483647) → (0 ≤ a1) ∧ (a1 < 20300) ∧ (((S1 4 a1) = 0) → Qp (some (mi 1)) S1) ∧ (¬ ((S1 4 a1) = 0) → (((S1 4 a1) = 1) → Qp (some (mi 1)) S1) ∧ (¬ ((S1 4 a1) = 1) → (((S1 4 a1) ≠ 3) → Qp (some (mi 0)) S1) ∧ (¬ ((S1 4 a1) ≠ 3) → CX_in g [mi v2, mi 0, mi 3] S1 (Qi fun v6 S5 => mI S5 → (-2147483648 ≤ v6 ∧ v6 ≤ 2147483647) → ((v6 ≠ 0) → Qp (some (mi 1)) S5) ∧ (¬ (v6 ≠ 0) → ((v2 = 11) → Qp (some (mi 1)) S5) ∧ (¬ (v2 = 11) → ((v2 ≠ 5) → Qp (some (mi 0)) S5) ∧ (¬ (v2 ≠ 5) → CX_child g [mt, mi a1, mi 1] S5 (Qi fun v8 S7 => mI S7 → (-2147483648 ≤ v8 ∧ v8 ≤ 2147483647) → (0 ≤ v8) ∧ (v8 < 20300) ∧ (((S7 4 v8) ≠ 0) → Qp (some (mi 0)) S7) ∧ (¬ ((S7 4 v8) ≠ 0) → Qp (some (mi 1)) S7)))))))))))
    : CX_isTold g [mt, mi a1] S Qp := by
  refine cm_y ⟨by decide, rfl⟩ (by simp [mcat]) (by simp) (fun _ _ _ _ _ => False) ?_ ?_
  · intro ha hS P Y Wk hIc
    have h := hE hS (mokI (ha (mi a1) (by simp)))
    clear hE ha
    refine y_aload_n 0 Y dX6_isTold_0 rfl ?_
    refine y_iload_n 1 Y dX6_isTold_1 rfl ?_
    refine y_call 2 Y (as := [mi a1]) [] dX6_isTold_2 rfl rfl rfl rfl rfl h (fun r S1 hq hI hr => ?_)
    obtain ⟨v2, rfl, h⟩ := Qi_ok hq
    replace h := h hI (mokI (hr _ rfl))
    clear hq hr
    refine y_istore_n 5 Y [some mt, some (mi a1), some (mi v2)] dX6_isTold_5 rfl rfl ?_
    refine y_aload_n 6 Y dX6_isTold_6 rfl ?_
    refine y_geta 7 Y 4 dX6_isTold_7 rfl rfl ?_
    refine y_iload_n 10 Y dX6_isTold_10 rfl ?_
    obtain ⟨o3, h⟩ := h
    obtain ⟨o4, h⟩ := h
    refine y_iald 11 Y dX6_isTold_11 rfl rfl o3 o4 (fun _ => ?_)
    refine y_if 12 69 Y dX6_isTold_12 rfl rfl (fun c => ?_) (fun c => ?_)
    · replace h := h.1 c
      refine y_iconst 69 Y dX6_isTold_69 rfl ?_
      refine y_goto 70 74 Y dX6_isTold_70 rfl rfl ?_
      exact y_zret 74 Y dX6_isTold_74 rfl (by decide) h
    · replace h := h.2 c
      refine y_aload_n 15 Y dX6_isTold_15 rfl ?_
      refine y_geta 16 Y 4 dX6_isTold_16 rfl rfl ?_
      refine y_iload_n 19 Y dX6_isTold_19 rfl ?_
      refine y_iald 20 Y dX6_isTold_20 rfl rfl o3 o4 (fun _ => ?_)
      refine y_iconst 21 Y dX6_isTold_21 rfl ?_
      refine y_icmp 22 69 Y dX6_isTold_22 rfl rfl (fun c => ?_) (fun c => ?_)
      · replace h := h.1 c
        refine y_iconst 69 Y dX6_isTold_69 rfl ?_
        refine y_goto 70 74 Y dX6_isTold_70 rfl rfl ?_
        exact y_zret 74 Y dX6_isTold_74 rfl (by decide) h
      · replace h := h.2 c
        refine y_aload_n 25 Y dX6_isTold_25 rfl ?_
        refine y_geta 26 Y 4 dX6_isTold_26 rfl rfl ?_
        refine y_iload_n 29 Y dX6_isTold_29 rfl ?_
        refine y_iald 30 Y dX6_isTold_30 rfl rfl o3 o4 (fun _ => ?_)
        refine y_iconst 31 Y dX6_isTold_31 rfl ?_
        refine y_icmp 32 73 Y dX6_isTold_32 rfl rfl (fun c => ?_) (fun c => ?_)
        · replace h := h.1 c
          refine y_iconst 73 Y dX6_isTold_73 rfl ?_
          exact y_zret 74 Y dX6_isTold_74 rfl (by decide) h
        · replace h := h.2 c
          refine y_iload_n 35 Y dX6_isTold_35 rfl ?_
          refine y_iconst 36 Y dX6_isTold_36 rfl ?_
          refine y_iconst 37 Y dX6_isTold_37 rfl ?_
          refine y_calls 38 Y (as := [mi v2, mi 0, mi 3]) [] dX6_isTold_38 rfl rfl rfl rfl rfl h (fun r S5 hq hI hr => ?_)
          obtain ⟨v6, rfl, h⟩ := Qi_ok hq
          replace h := h hI (mokI (hr _ rfl))
          clear hq hr
          refine y_if 41 69 Y dX6_isTold_41 rfl rfl (fun c => ?_) (fun c => ?_)
          · replace h := h.1 c
            refine y_iconst 69 Y dX6_isTold_69 rfl ?_
            refine y_goto 70 74 Y dX6_isTold_70 rfl rfl ?_
            exact y_zret 74 Y dX6_isTold_74 rfl (by decide) h
          · replace h := h.2 c
            refine y_iload_n 44 Y dX6_isTold_44 rfl ?_
            refine y_bipush 45 Y dX6_isTold_45 rfl ?_
            refine y_icmp 47 69 Y dX6_isTold_47 rfl rfl (fun c => ?_) (fun c => ?_)
            · replace h := h.1 c
              refine y_iconst 69 Y dX6_isTold_69 rfl ?_
              refine y_goto 70 74 Y dX6_isTold_70 rfl rfl ?_
              exact y_zret 74 Y dX6_isTold_74 rfl (by decide) h
            · replace h := h.2 c
              refine y_iload_n 50 Y dX6_isTold_50 rfl ?_
              refine y_iconst 51 Y dX6_isTold_51 rfl ?_
              refine y_icmp 52 73 Y dX6_isTold_52 rfl rfl (fun c => ?_) (fun c => ?_)
              · replace h := h.1 c
                refine y_iconst 73 Y dX6_isTold_73 rfl ?_
                exact y_zret 74 Y dX6_isTold_74 rfl (by decide) h
              · replace h := h.2 c
                refine y_aload_n 55 Y dX6_isTold_55 rfl ?_
                refine y_geta 56 Y 4 dX6_isTold_56 rfl rfl ?_
                refine y_aload_n 59 Y dX6_isTold_59 rfl ?_
                refine y_iload_n 60 Y dX6_isTold_60 rfl ?_
                refine y_iconst 61 Y dX6_isTold_61 rfl ?_
                refine y_call 62 Y (as := [mi a1, mi 1]) [mr 4] dX6_isTold_62 rfl rfl rfl rfl rfl h (fun r S7 hq hI hr => ?_)
                obtain ⟨v8, rfl, h⟩ := Qi_ok hq
                replace h := h hI (mokI (hr _ rfl))
                clear hq hr
                obtain ⟨o9, h⟩ := h
                obtain ⟨o10, h⟩ := h
                refine y_iald 65 Y dX6_isTold_65 rfl rfl o9 o10 (fun _ => ?_)
                refine y_if 66 73 Y dX6_isTold_66 rfl rfl (fun c => ?_) (fun c => ?_)
                · replace h := h.1 c
                  refine y_iconst 73 Y dX6_isTold_73 rfl ?_
                  exact y_zret 74 Y dX6_isTold_74 rfl (by decide) h
                · replace h := h.2 c
                  refine y_iconst 69 Y dX6_isTold_69 rfl ?_
                  refine y_goto 70 74 Y dX6_isTold_70 rfl rfl ?_
                  exact y_zret 74 Y dX6_isTold_74 rfl (by decide) h
  · intro n pc L st T hi
    exact hi.elim
set_option maxHeartbeats 4000000 in
theorem of_loadDenominator {g : mG} {S : mS} {a1 a2 : Int} {Qp : Option mV → mS → Prop}
    (hE : mI S → (-2147483648 ≤ a1 ∧ a1 ≤ 2147483647) → (-2147483648 ≤ a2 ∧ a2 ≤ 2147483647) → CX_load g [mt, mi a1, mi a2, mi 14] S (Qv fun S1 => mI S1 → Qp none S1))
    : CX_loadDenominator g [mt, mi a1, mi a2] S Qp := by
  refine cm_y ⟨by decide, rfl⟩ (by simp [mcat]) (by simp) (fun _ _ _ _ _ => False) ?_ ?_
  · intro ha hS P Y Wk hIc
    have h := hE hS (mokI (ha (mi a1) (by simp))) (mokI (ha (mi a2) (by simp)))
    clear hE ha
    refine y_aload_n 0 Y dX6_loadDenominator_0 rfl ?_
    refine y_iload_n 1 Y dX6_loadDenominator_1 rfl ?_
    refine y_iload_n 2 Y dX6_loadDenominator_2 rfl ?_
    refine y_bipush 3 Y dX6_loadDenominator_3 rfl ?_
    refine y_call 5 Y (as := [mi a1, mi a2, mi 14]) [] dX6_loadDenominator_5 rfl rfl rfl rfl rfl h (fun r S1 hq hI _ => ?_)
    obtain ⟨rfl, h⟩ := Qv_ok hq
    replace h := h hI
    clear hq
    exact y_ret 8 Y dX6_loadDenominator_8 rfl h
  · intro n pc L st T hi
    exact hi.elim
set_option maxHeartbeats 4000000 in
theorem of_loadNumerator {g : mG} {S : mS} {a1 a2 : Int} {Qp : Option mV → mS → Prop}
    (hE : mI S → (-2147483648 ≤ a1 ∧ a1 ≤ 2147483647) → (-2147483648 ≤ a2 ∧ a2 ≤ 2147483647) → CX_load g [mt, mi a1, mi a2, mi 1] S (Qv fun S1 => mI S1 → Qp none S1))
    : CX_loadNumerator g [mt, mi a1, mi a2] S Qp := by
  refine cm_y ⟨by decide, rfl⟩ (by simp [mcat]) (by simp) (fun _ _ _ _ _ => False) ?_ ?_
  · intro ha hS P Y Wk hIc
    have h := hE hS (mokI (ha (mi a1) (by simp))) (mokI (ha (mi a2) (by simp)))
    clear hE ha
    refine y_aload_n 0 Y dX6_loadNumerator_0 rfl ?_
    refine y_iload_n 1 Y dX6_loadNumerator_1 rfl ?_
    refine y_iload_n 2 Y dX6_loadNumerator_2 rfl ?_
    refine y_iconst 3 Y dX6_loadNumerator_3 rfl ?_
    refine y_call 4 Y (as := [mi a1, mi a2, mi 1]) [] dX6_loadNumerator_4 rfl rfl rfl rfl rfl h (fun r S1 hq hI _ => ?_)
    obtain ⟨rfl, h⟩ := Qv_ok hq
    replace h := h hI
    clear hq
    exact y_ret 7 Y dX6_loadNumerator_7 rfl h
  · intro n pc L st T hi
    exact hi.elim
set_option maxHeartbeats 4000000 in
theorem of_number {g : mG} {S : mS} {a1 : Int} {Qp : Option mV → mS → Prop} (I95 : Nat → Int → Int → Int → Int → Int → Int → mS → Prop)
    (hE : mI S → (-2147483648 ≤ a1 ∧ a1 ≤ 2147483647) → (-2147483648 ≤ ((a1 + 1) : Int) ∧ (a1 + 1) ≤ 2147483647) ∧ CX_typedAt g [mt, mi (a1 + 1)] S (Qi fun v3 S2 => mI S2 → (-2147483648 ≤ v3 ∧ v3 ≤ 2147483647) → CX_typedAt g [mt, mi a1] S2 (Qi fun v5 S4 => mI S4 → (-2147483648 ≤ v5 ∧ v5 ≤ 2147483647) → ((v5 = 48) → ((v3 ≠ 120) → ((v3 ≠ 111) → ((v3 ≠ 98) → (∃ n1, I95 n1 a1 10 a1 9 a1 0 S4)) ∧ (¬ (v3 ≠ 98) → (-2147483648 ≤ ((a1 + 2) : Int) ∧ (a1 + 2) ≤ 2147483647) ∧ (∃ n1, I95 n1 a1 2 (a1 + 2) 7 (a1 + 2) 0 S4))) ∧ (¬ (v3 ≠ 111) → (-2147483648 ≤ ((a1 + 2) : Int) ∧ (a1 + 2) ≤ 2147483647) ∧ (∃ n1, I95 n1 a1 8 (a1 + 2) 7 (a1 + 2) 0 S4))) ∧ (¬ (v3 ≠ 120) → (-2147483648 ≤ ((a1 + 2) : Int) ∧ (a1 + 2) ≤ 2147483647) ∧ (∃ n1, I95 n1 a1 16 (a1 + 2) 7 (a1 + 2) 0 S4))) ∧ (¬ (v5 = 48) → (∃ n1, I95 n1 a1 10 a1 9 a1 0 S4)))))
    (h95 : ∀ (n : Nat) (l1 l3 l4 l5 l6 l7 : Int) (T : mS), mI T → (-2147483648 ≤ l1 ∧ l1 ≤ 2147483647) → (-2147483648 ≤ l3 ∧ l3 ≤ 2147483647) → (-2147483648 ≤ l4 ∧ l4 ≤ 2147483647) → (-2147483648 ≤ l5 ∧ l5 ≤ 2147483647) → (-2147483648 ≤ l6 ∧ l6 ≤ 2147483647) → (-2147483648 ≤ l7 ∧ l7 ≤ 2147483647) → I95 n l1 l3 l4 l5 l6 l7 T → (-2147483648 ≤ ((l4 - l6) : Int) ∧ (l4 - l6) ≤ 2147483647) ∧ ((l5 ≤ (l4 - l6)) → CX_word g [mt, mi 0, mi l7, mi l1] T (Qv fun S2 => mI S2 → ((l4 ≠ l6) → Qp (some (mi l4)) S2) ∧ (¬ (l4 ≠ l6) → (-2147483648 ≤ ((-l4) : Int) ∧ (-l4) ≤ 2147483647) ∧ Qp (some (mi (-l4))) S2))) ∧ (¬ (l5 ≤ (l4 - l6)) → (((T 19 0) ≤ l4) → CX_word g [mt, mi 0, mi l7, mi l1] T (Qv fun S4 => mI S4 → ((l4 ≠ l6) → Qp (some (mi l4)) S4) ∧ (¬ (l4 ≠ l6) → (-2147483648 ≤ ((-l4) : Int) ∧ (-l4) ≤ 2147483647) ∧ Qp (some (mi (-l4))) S4))) ∧ (¬ ((T 19 0) ≤ l4) → (0 ≤ l4) ∧ (l4 < 60) ∧ CX_digit g [mi (T 18 l4), mi l3] T (Qi fun v9 S8 => mI S8 → (-2147483648 ≤ v9 ∧ v9 ≤ 2147483647) → ((v9 < 0) → CX_word g [mt, mi 0, mi l7, mi l1] S8 (Qv fun S10 => mI S10 → ((l4 ≠ l6) → Qp (some (mi l4)) S10) ∧ (¬ (l4 ≠ l6) → (-2147483648 ≤ ((-l4) : Int) ∧ (-l4) ≤ 2147483647) ∧ Qp (some (mi (-l4))) S10))) ∧ (¬ (v9 < 0) → (-2147483648 ≤ ((l3 * l7) : Int) ∧ (l3 * l7) ≤ 2147483647) ∧ CX_digit g [mi (S8 18 l4), mi l3] S8 (Qi fun v14 S13 => mI S13 → (-2147483648 ≤ v14 ∧ v14 ≤ 2147483647) → (-2147483648 ≤ (((l3 * l7) + v14) : Int) ∧ ((l3 * l7) + v14) ≤ 2147483647) ∧ (-2147483648 ≤ ((l4 + 1) : Int) ∧ (l4 + 1) ≤ 2147483647) ∧ (∃ n1, n1 < n ∧ I95 n1 l1 l3 (l4 + 1) l5 l6 ((l3 * l7) + v14) S13)))))))
    : CX_number g [mt, mi a1] S Qp := by
  refine cm_y ⟨by decide, rfl⟩ (by simp [mcat]) (by simp) (fun n pc L st S => (pc = 95 ∧ ∃ (l1 : Int) (l3 : Int) (l4 : Int) (l5 : Int) (l6 : Int) (l7 : Int), L = [some mt, some (mi l1), none, some (mi l3), some (mi l4), some (mi l5), some (mi l6), some (mi l7)] ∧ st = [] ∧ I95 n l1 l3 l4 l5 l6 l7 S)) ?_ ?_
  · intro ha hS P Y Wk hIc
    have h := hE hS (mokI (ha (mi a1) (by simp)))
    clear hE ha h95
    refine y_aload_n 0 Y dX6_number_0 rfl ?_
    refine y_iload_n 1 Y dX6_number_1 rfl ?_
    refine y_iconst 2 Y dX6_number_2 rfl ?_
    obtain ⟨o1, h⟩ := h
    refine y_iadd 3 Y dX6_number_3 o1 ?_
    refine y_call 4 Y (as := [mi (a1 + 1)]) [] dX6_number_4 rfl rfl rfl rfl rfl h (fun r S2 hq hI hr => ?_)
    obtain ⟨v3, rfl, h⟩ := Qi_ok hq
    replace h := h hI (mokI (hr _ rfl))
    clear hq hr
    refine y_istore_n 7 Y [some mt, some (mi a1), some (mi v3), none, none, none, none, none] dX6_number_7 rfl rfl ?_
    refine y_aload_n 8 Y dX6_number_8 rfl ?_
    refine y_iload_n 9 Y dX6_number_9 rfl ?_
    refine y_call 10 Y (as := [mi a1]) [] dX6_number_10 rfl rfl rfl rfl rfl h (fun r S4 hq hI hr => ?_)
    obtain ⟨v5, rfl, h⟩ := Qi_ok hq
    replace h := h hI (mokI (hr _ rfl))
    clear hq hr
    refine y_bipush 13 Y dX6_number_13 rfl ?_
    refine y_icmp 15 23 Y dX6_number_15 rfl rfl (fun c => ?_) (fun c => ?_)
    · replace h := h.1 c
      refine y_iload_n 23 Y dX6_number_23 rfl ?_
      refine y_bipush 24 Y dX6_number_24 rfl ?_
      refine y_icmp 26 34 Y dX6_number_26 rfl rfl (fun c => ?_) (fun c => ?_)
      · replace h := h.1 c
        refine y_iload_n 34 Y dX6_number_34 rfl ?_
        refine y_bipush 35 Y dX6_number_35 rfl ?_
        refine y_icmp 37 45 Y dX6_number_37 rfl rfl (fun c => ?_) (fun c => ?_)
        · replace h := h.1 c
          refine y_iload_n 45 Y dX6_number_45 rfl ?_
          refine y_bipush 46 Y dX6_number_46 rfl ?_
          refine y_icmp 48 55 Y dX6_number_48 rfl rfl (fun c => ?_) (fun c => ?_)
          · replace h := h.1 c
            refine y_bipush 55 Y dX6_number_55 rfl ?_
            refine y_istore_n 57 Y [some mt, some (mi a1), some (mi v3), some (mi 10), none, none, none, none] dX6_number_57 rfl rfl ?_
            refine y_iload_n 58 Y dX6_number_58 rfl ?_
            refine y_bipush 59 Y dX6_number_59 rfl ?_
            refine y_icmp 61 68 Y dX6_number_61 rfl rfl (fun c => absurd c (show ¬ ((10 : Int) ≠ 10) by decide)) (fun _ => ?_)
            refine y_iload_n 64 Y dX6_number_64 rfl ?_
            refine y_goto 65 71 Y dX6_number_65 rfl rfl ?_
            refine y_istore 71 Y [some mt, some (mi a1), some (mi v3), some (mi 10), some (mi a1), none, none, none] dX6_number_71 rfl rfl ?_
            refine y_iload_n 73 Y dX6_number_73 rfl ?_
            refine y_bipush 74 Y dX6_number_74 rfl ?_
            refine y_icmp 76 84 Y dX6_number_76 rfl rfl (fun c => absurd c (show ¬ ((10 : Int) ≠ 10) by decide)) (fun _ => ?_)
            refine y_bipush 79 Y dX6_number_79 rfl ?_
            refine y_goto 81 86 Y dX6_number_81 rfl rfl ?_
            refine y_istore 86 Y [some mt, some (mi a1), some (mi v3), some (mi 10), some (mi a1), some (mi 9), none, none] dX6_number_86 rfl rfl ?_
            refine y_iload 88 Y dX6_number_88 rfl ?_
            refine y_istore 90 Y [some mt, some (mi a1), some (mi v3), some (mi 10), some (mi a1), some (mi 9), some (mi a1), none] dX6_number_90 rfl rfl ?_
            refine y_iconst 92 Y dX6_number_92 rfl ?_
            refine y_istore 93 Y [some mt, some (mi a1), some (mi v3), some (mi 10), some (mi a1), some (mi 9), some (mi a1), some (mi 0)] dX6_number_93 rfl rfl ?_
            obtain ⟨n1, h⟩ := h
            exact Wk 95 _ [some mt, some (mi a1), none, some (mi 10), some (mi a1), some (mi 9), some (mi a1), some (mi 0)] _ _ ⟨rfl, ⟨rfl, ⟨rfl, ⟨rfl, ⟨rfl, ⟨rfl, ⟨rfl, trivial⟩⟩⟩⟩⟩⟩⟩ (hIc n1 _ _ _ _ ((⟨rfl, _, _, _, _, _, _, rfl, rfl, h⟩)))
          · replace h := h.2 c
            refine y_iconst 51 Y dX6_number_51 rfl ?_
            refine y_goto 52 57 Y dX6_number_52 rfl rfl ?_
            refine y_istore_n 57 Y [some mt, some (mi a1), some (mi v3), some (mi 2), none, none, none, none] dX6_number_57 rfl rfl ?_
            refine y_iload_n 58 Y dX6_number_58 rfl ?_
            refine y_bipush 59 Y dX6_number_59 rfl ?_
            refine y_icmp 61 68 Y dX6_number_61 rfl rfl (fun _ => ?_) (fun c => absurd (show (2 : Int) ≠ 10 by decide) c)
            refine y_iload_n 68 Y dX6_number_68 rfl ?_
            refine y_iconst 69 Y dX6_number_69 rfl ?_
            obtain ⟨o6, h⟩ := h
            refine y_iadd 70 Y dX6_number_70 o6 ?_
            refine y_istore 71 Y [some mt, some (mi a1), some (mi v3), some (mi 2), some (mi (a1 + 2)), none, none, none] dX6_number_71 rfl rfl ?_
            refine y_iload_n 73 Y dX6_number_73 rfl ?_
            refine y_bipush 74 Y dX6_number_74 rfl ?_
            refine y_icmp 76 84 Y dX6_number_76 rfl rfl (fun _ => ?_) (fun c => absurd (show (2 : Int) ≠ 10 by decide) c)
            refine y_bipush 84 Y dX6_number_84 rfl ?_
            refine y_istore 86 Y [some mt, some (mi a1), some (mi v3), some (mi 2), some (mi (a1 + 2)), some (mi 7), none, none] dX6_number_86 rfl rfl ?_
            refine y_iload 88 Y dX6_number_88 rfl ?_
            refine y_istore 90 Y [some mt, some (mi a1), some (mi v3), some (mi 2), some (mi (a1 + 2)), some (mi 7), some (mi (a1 + 2)), none] dX6_number_90 rfl rfl ?_
            refine y_iconst 92 Y dX6_number_92 rfl ?_
            refine y_istore 93 Y [some mt, some (mi a1), some (mi v3), some (mi 2), some (mi (a1 + 2)), some (mi 7), some (mi (a1 + 2)), some (mi 0)] dX6_number_93 rfl rfl ?_
            obtain ⟨n1, h⟩ := h
            exact Wk 95 _ [some mt, some (mi a1), none, some (mi 2), some (mi (a1 + 2)), some (mi 7), some (mi (a1 + 2)), some (mi 0)] _ _ ⟨rfl, ⟨rfl, ⟨rfl, ⟨rfl, ⟨rfl, ⟨rfl, ⟨rfl, trivial⟩⟩⟩⟩⟩⟩⟩ (hIc n1 _ _ _ _ ((⟨rfl, _, _, _, _, _, _, rfl, rfl, h⟩)))
        · replace h := h.2 c
          refine y_bipush 40 Y dX6_number_40 rfl ?_
          refine y_goto 42 57 Y dX6_number_42 rfl rfl ?_
          refine y_istore_n 57 Y [some mt, some (mi a1), some (mi v3), some (mi 8), none, none, none, none] dX6_number_57 rfl rfl ?_
          refine y_iload_n 58 Y dX6_number_58 rfl ?_
          refine y_bipush 59 Y dX6_number_59 rfl ?_
          refine y_icmp 61 68 Y dX6_number_61 rfl rfl (fun _ => ?_) (fun c => absurd (show (8 : Int) ≠ 10 by decide) c)
          refine y_iload_n 68 Y dX6_number_68 rfl ?_
          refine y_iconst 69 Y dX6_number_69 rfl ?_
          obtain ⟨o7, h⟩ := h
          refine y_iadd 70 Y dX6_number_70 o7 ?_
          refine y_istore 71 Y [some mt, some (mi a1), some (mi v3), some (mi 8), some (mi (a1 + 2)), none, none, none] dX6_number_71 rfl rfl ?_
          refine y_iload_n 73 Y dX6_number_73 rfl ?_
          refine y_bipush 74 Y dX6_number_74 rfl ?_
          refine y_icmp 76 84 Y dX6_number_76 rfl rfl (fun _ => ?_) (fun c => absurd (show (8 : Int) ≠ 10 by decide) c)
          refine y_bipush 84 Y dX6_number_84 rfl ?_
          refine y_istore 86 Y [some mt, some (mi a1), some (mi v3), some (mi 8), some (mi (a1 + 2)), some (mi 7), none, none] dX6_number_86 rfl rfl ?_
          refine y_iload 88 Y dX6_number_88 rfl ?_
          refine y_istore 90 Y [some mt, some (mi a1), some (mi v3), some (mi 8), some (mi (a1 + 2)), some (mi 7), some (mi (a1 + 2)), none] dX6_number_90 rfl rfl ?_
          refine y_iconst 92 Y dX6_number_92 rfl ?_
          refine y_istore 93 Y [some mt, some (mi a1), some (mi v3), some (mi 8), some (mi (a1 + 2)), some (mi 7), some (mi (a1 + 2)), some (mi 0)] dX6_number_93 rfl rfl ?_
          obtain ⟨n1, h⟩ := h
          exact Wk 95 _ [some mt, some (mi a1), none, some (mi 8), some (mi (a1 + 2)), some (mi 7), some (mi (a1 + 2)), some (mi 0)] _ _ ⟨rfl, ⟨rfl, ⟨rfl, ⟨rfl, ⟨rfl, ⟨rfl, ⟨rfl, trivial⟩⟩⟩⟩⟩⟩⟩ (hIc n1 _ _ _ _ ((⟨rfl, _, _, _, _, _, _, rfl, rfl, h⟩)))
      · replace h := h.2 c
        refine y_bipush 29 Y dX6_number_29 rfl ?_
        refine y_goto 31 57 Y dX6_number_31 rfl rfl ?_
        refine y_istore_n 57 Y [some mt, some (mi a1), some (mi v3), some (mi 16), none, none, none, none] dX6_number_57 rfl rfl ?_
        refine y_iload_n 58 Y dX6_number_58 rfl ?_
        refine y_bipush 59 Y dX6_number_59 rfl ?_
        refine y_icmp 61 68 Y dX6_number_61 rfl rfl (fun _ => ?_) (fun c => absurd (show (16 : Int) ≠ 10 by decide) c)
        refine y_iload_n 68 Y dX6_number_68 rfl ?_
        refine y_iconst 69 Y dX6_number_69 rfl ?_
        obtain ⟨o8, h⟩ := h
        refine y_iadd 70 Y dX6_number_70 o8 ?_
        refine y_istore 71 Y [some mt, some (mi a1), some (mi v3), some (mi 16), some (mi (a1 + 2)), none, none, none] dX6_number_71 rfl rfl ?_
        refine y_iload_n 73 Y dX6_number_73 rfl ?_
        refine y_bipush 74 Y dX6_number_74 rfl ?_
        refine y_icmp 76 84 Y dX6_number_76 rfl rfl (fun _ => ?_) (fun c => absurd (show (16 : Int) ≠ 10 by decide) c)
        refine y_bipush 84 Y dX6_number_84 rfl ?_
        refine y_istore 86 Y [some mt, some (mi a1), some (mi v3), some (mi 16), some (mi (a1 + 2)), some (mi 7), none, none] dX6_number_86 rfl rfl ?_
        refine y_iload 88 Y dX6_number_88 rfl ?_
        refine y_istore 90 Y [some mt, some (mi a1), some (mi v3), some (mi 16), some (mi (a1 + 2)), some (mi 7), some (mi (a1 + 2)), none] dX6_number_90 rfl rfl ?_
        refine y_iconst 92 Y dX6_number_92 rfl ?_
        refine y_istore 93 Y [some mt, some (mi a1), some (mi v3), some (mi 16), some (mi (a1 + 2)), some (mi 7), some (mi (a1 + 2)), some (mi 0)] dX6_number_93 rfl rfl ?_
        obtain ⟨n1, h⟩ := h
        exact Wk 95 _ [some mt, some (mi a1), none, some (mi 16), some (mi (a1 + 2)), some (mi 7), some (mi (a1 + 2)), some (mi 0)] _ _ ⟨rfl, ⟨rfl, ⟨rfl, ⟨rfl, ⟨rfl, ⟨rfl, ⟨rfl, trivial⟩⟩⟩⟩⟩⟩⟩ (hIc n1 _ _ _ _ ((⟨rfl, _, _, _, _, _, _, rfl, rfl, h⟩)))
    · replace h := h.2 c
      refine y_bipush 18 Y dX6_number_18 rfl ?_
      refine y_goto 20 57 Y dX6_number_20 rfl rfl ?_
      refine y_istore_n 57 Y [some mt, some (mi a1), some (mi v3), some (mi 10), none, none, none, none] dX6_number_57 rfl rfl ?_
      refine y_iload_n 58 Y dX6_number_58 rfl ?_
      refine y_bipush 59 Y dX6_number_59 rfl ?_
      refine y_icmp 61 68 Y dX6_number_61 rfl rfl (fun c => absurd c (show ¬ ((10 : Int) ≠ 10) by decide)) (fun _ => ?_)
      refine y_iload_n 64 Y dX6_number_64 rfl ?_
      refine y_goto 65 71 Y dX6_number_65 rfl rfl ?_
      refine y_istore 71 Y [some mt, some (mi a1), some (mi v3), some (mi 10), some (mi a1), none, none, none] dX6_number_71 rfl rfl ?_
      refine y_iload_n 73 Y dX6_number_73 rfl ?_
      refine y_bipush 74 Y dX6_number_74 rfl ?_
      refine y_icmp 76 84 Y dX6_number_76 rfl rfl (fun c => absurd c (show ¬ ((10 : Int) ≠ 10) by decide)) (fun _ => ?_)
      refine y_bipush 79 Y dX6_number_79 rfl ?_
      refine y_goto 81 86 Y dX6_number_81 rfl rfl ?_
      refine y_istore 86 Y [some mt, some (mi a1), some (mi v3), some (mi 10), some (mi a1), some (mi 9), none, none] dX6_number_86 rfl rfl ?_
      refine y_iload 88 Y dX6_number_88 rfl ?_
      refine y_istore 90 Y [some mt, some (mi a1), some (mi v3), some (mi 10), some (mi a1), some (mi 9), some (mi a1), none] dX6_number_90 rfl rfl ?_
      refine y_iconst 92 Y dX6_number_92 rfl ?_
      refine y_istore 93 Y [some mt, some (mi a1), some (mi v3), some (mi 10), some (mi a1), some (mi 9), some (mi a1), some (mi 0)] dX6_number_93 rfl rfl ?_
      obtain ⟨n1, h⟩ := h
      exact Wk 95 _ [some mt, some (mi a1), none, some (mi 10), some (mi a1), some (mi 9), some (mi a1), some (mi 0)] _ _ ⟨rfl, ⟨rfl, ⟨rfl, ⟨rfl, ⟨rfl, ⟨rfl, ⟨rfl, trivial⟩⟩⟩⟩⟩⟩⟩ (hIc n1 _ _ _ _ ((⟨rfl, _, _, _, _, _, _, rfl, rfl, h⟩)))
  · intro n pc L st T hi hS hL P Y Wk hIc
    clear hE
    rcases hi with ⟨rfl, l1, l3, l4, l5, l6, l7, rfl, rfl, hi⟩
    · have h := h95 n l1 l3 l4 l5 l6 l7 T hS (hL 1 _ rfl) (hL 3 _ rfl) (hL 4 _ rfl) (hL 5 _ rfl) (hL 6 _ rfl) (hL 7 _ rfl) hi
      clear hL hi h95
      refine y_iload 95 Y dX6_number_95 rfl ?_
      refine y_iload 97 Y dX6_number_97 rfl ?_
      obtain ⟨o1, h⟩ := h
      refine y_isub 99 Y dX6_number_99 o1 ?_
      refine y_iload 100 Y dX6_number_100 rfl ?_
      refine y_icmp 102 152 Y dX6_number_102 rfl rfl (fun c => ?_) (fun c => ?_)
      · replace h := h.1 c
        refine y_aload_n 152 Y dX6_number_152 rfl ?_
        refine y_iconst 153 Y dX6_number_153 rfl ?_
        refine y_iload 154 Y dX6_number_154 rfl ?_
        refine y_iload_n 156 Y dX6_number_156 rfl ?_
        refine y_call 157 Y (as := [mi 0, mi l7, mi l1]) [] dX6_number_157 rfl rfl rfl rfl rfl h (fun r S2 hq hI _ => ?_)
        obtain ⟨rfl, h⟩ := Qv_ok hq
        replace h := h hI
        clear hq
        refine y_iload 160 Y dX6_number_160 rfl ?_
        refine y_iload 162 Y dX6_number_162 rfl ?_
        refine y_icmp 164 173 Y dX6_number_164 rfl rfl (fun c => ?_) (fun c => ?_)
        · replace h := h.1 c
          refine y_iload 173 Y dX6_number_173 rfl ?_
          exact y_iret 175 Y dX6_number_175 rfl h
        · replace h := h.2 c
          refine y_iload 167 Y dX6_number_167 rfl ?_
          obtain ⟨o3, h⟩ := h
          refine y_ineg 169 Y dX6_number_169 o3 ?_
          refine y_goto 170 175 Y dX6_number_170 rfl rfl ?_
          exact y_iret 175 Y dX6_number_175 rfl h
      · replace h := h.2 c
        refine y_iload 105 Y dX6_number_105 rfl ?_
        refine y_aload_n 107 Y dX6_number_107 rfl ?_
        refine y_getf 108 Y 19 dX6_number_108 rfl rfl (fun _ => ?_)
        refine y_icmp 111 152 Y dX6_number_111 rfl rfl (fun c => ?_) (fun c => ?_)
        · replace h := h.1 c
          refine y_aload_n 152 Y dX6_number_152 rfl ?_
          refine y_iconst 153 Y dX6_number_153 rfl ?_
          refine y_iload 154 Y dX6_number_154 rfl ?_
          refine y_iload_n 156 Y dX6_number_156 rfl ?_
          refine y_call 157 Y (as := [mi 0, mi l7, mi l1]) [] dX6_number_157 rfl rfl rfl rfl rfl h (fun r S4 hq hI _ => ?_)
          obtain ⟨rfl, h⟩ := Qv_ok hq
          replace h := h hI
          clear hq
          refine y_iload 160 Y dX6_number_160 rfl ?_
          refine y_iload 162 Y dX6_number_162 rfl ?_
          refine y_icmp 164 173 Y dX6_number_164 rfl rfl (fun c => ?_) (fun c => ?_)
          · replace h := h.1 c
            refine y_iload 173 Y dX6_number_173 rfl ?_
            exact y_iret 175 Y dX6_number_175 rfl h
          · replace h := h.2 c
            refine y_iload 167 Y dX6_number_167 rfl ?_
            obtain ⟨o5, h⟩ := h
            refine y_ineg 169 Y dX6_number_169 o5 ?_
            refine y_goto 170 175 Y dX6_number_170 rfl rfl ?_
            exact y_iret 175 Y dX6_number_175 rfl h
        · replace h := h.2 c
          refine y_aload_n 114 Y dX6_number_114 rfl ?_
          refine y_geta 115 Y 18 dX6_number_115 rfl rfl ?_
          refine y_iload 118 Y dX6_number_118 rfl ?_
          obtain ⟨o6, h⟩ := h
          obtain ⟨o7, h⟩ := h
          refine y_iald 120 Y dX6_number_120 rfl rfl o6 o7 (fun _ => ?_)
          refine y_iload_n 121 Y dX6_number_121 rfl ?_
          refine y_calls 122 Y (as := [mi (T 18 l4), mi l3]) [] dX6_number_122 rfl rfl rfl rfl rfl h (fun r S8 hq hI hr => ?_)
          obtain ⟨v9, rfl, h⟩ := Qi_ok hq
          replace h := h hI (mokI (hr _ rfl))
          clear hq hr
          refine y_if 125 152 Y dX6_number_125 rfl rfl (fun c => ?_) (fun c => ?_)
          · replace h := h.1 c
            refine y_aload_n 152 Y dX6_number_152 rfl ?_
            refine y_iconst 153 Y dX6_number_153 rfl ?_
            refine y_iload 154 Y dX6_number_154 rfl ?_
            refine y_iload_n 156 Y dX6_number_156 rfl ?_
            refine y_call 157 Y (as := [mi 0, mi l7, mi l1]) [] dX6_number_157 rfl rfl rfl rfl rfl h (fun r S10 hq hI _ => ?_)
            obtain ⟨rfl, h⟩ := Qv_ok hq
            replace h := h hI
            clear hq
            refine y_iload 160 Y dX6_number_160 rfl ?_
            refine y_iload 162 Y dX6_number_162 rfl ?_
            refine y_icmp 164 173 Y dX6_number_164 rfl rfl (fun c => ?_) (fun c => ?_)
            · replace h := h.1 c
              refine y_iload 173 Y dX6_number_173 rfl ?_
              exact y_iret 175 Y dX6_number_175 rfl h
            · replace h := h.2 c
              refine y_iload 167 Y dX6_number_167 rfl ?_
              obtain ⟨o11, h⟩ := h
              refine y_ineg 169 Y dX6_number_169 o11 ?_
              refine y_goto 170 175 Y dX6_number_170 rfl rfl ?_
              exact y_iret 175 Y dX6_number_175 rfl h
          · replace h := h.2 c
            refine y_iload_n 128 Y dX6_number_128 rfl ?_
            refine y_iload 129 Y dX6_number_129 rfl ?_
            obtain ⟨o12, h⟩ := h
            refine y_imul 131 Y dX6_number_131 o12 ?_
            refine y_aload_n 132 Y dX6_number_132 rfl ?_
            refine y_geta 133 Y 18 dX6_number_133 rfl rfl ?_
            refine y_iload 136 Y dX6_number_136 rfl ?_
            refine y_iald 138 Y dX6_number_138 rfl rfl o6 o7 (fun _ => ?_)
            refine y_iload_n 139 Y dX6_number_139 rfl ?_
            refine y_calls 140 Y (as := [mi (S8 18 l4), mi l3]) [mi (l3 * l7)] dX6_number_140 rfl rfl rfl rfl rfl h (fun r S13 hq hI hr => ?_)
            obtain ⟨v14, rfl, h⟩ := Qi_ok hq
            replace h := h hI (mokI (hr _ rfl))
            clear hq hr
            obtain ⟨o15, h⟩ := h
            refine y_iadd 143 Y dX6_number_143 o15 ?_
            refine y_istore 144 Y [some mt, some (mi l1), none, some (mi l3), some (mi l4), some (mi l5), some (mi l6), some (mi ((l3 * l7) + v14))] dX6_number_144 rfl rfl ?_
            obtain ⟨o16, h⟩ := h
            refine y_iinc 146 Y [some mt, some (mi l1), none, some (mi l3), some (mi (l4 + 1)), some (mi l5), some (mi l6), some (mi ((l3 * l7) + v14))] dX6_number_146 rfl rfl o16 ?_
            refine y_goto 149 95 Y dX6_number_149 rfl rfl ?_
            obtain ⟨n1, hn, h⟩ := h
            exact Wk 95 _ [some mt, some (mi l1), none, some (mi l3), some (mi (l4 + 1)), some (mi l5), some (mi l6), some (mi ((l3 * l7) + v14))] _ _ ⟨rfl, ⟨rfl, ⟨rfl, ⟨rfl, ⟨rfl, ⟨rfl, ⟨rfl, trivial⟩⟩⟩⟩⟩⟩⟩ (hIc n1 _ _ _ _ hn ((⟨rfl, _, _, _, _, _, _, rfl, rfl, h⟩)))
set_option maxHeartbeats 4000000 in
theorem of_operand {g : mG} {S : mS} {a1 : Int} {Qp : Option mV → mS → Prop}
    (hE : mI S → (-2147483648 ≤ a1 ∧ a1 ≤ 2147483647) → (0 ≤ a1) ∧ (a1 < 1000) ∧ ((S 20 a1) = 0 → CX_does g [mt, mi 0, mi (S 21 a1), mi (-1), mi 0] S (Qv fun S3 => mI S3 → Qp (some (mi 1)) S3)) ∧ ((S 20 a1) = 1 → CX_nextWord g [mt, mi a1] S (Qi fun v5 S4 => mI S4 → (-2147483648 ≤ v5 ∧ v5 ≤ 2147483647) → (((S4 25 0) ≤ v5) → CX_does g [mt, mi 1, mi (S4 21 a1), mi (-1), mi 0] S4 (Qv fun S6 => mI S6 → Qp (some (mi 1)) S6)) ∧ (¬ ((S4 25 0) ≤ v5) → (0 ≤ v5) ∧ (v5 < 1000) ∧ (((S4 20 v5) ≠ 3) → CX_does g [mt, mi 1, mi (S4 21 a1), mi (-1), mi 0] S4 (Qv fun S9 => mI S9 → Qp (some (mi 1)) S9)) ∧ (¬ ((S4 20 v5) ≠ 3) → CX_opens g [mt, mi 1, mi (S4 21 a1), mi 1] S4 (Qv fun S10 => mI S10 → Qp (some (mi 1)) S10))))) ∧ ((S 20 a1) = 2 → CX_rankOf g [mt, mi (S 21 a1), mi 0] S (Qi fun v12 S11 => mI S11 → (-2147483648 ≤ v12 ∧ v12 ≤ 2147483647) → ((v12 ≤ 0) → ((v12 ≤ 0) → Qp (some (mi 0)) S11) ∧ (¬ (v12 ≤ 0) → Qp (some (mi 1)) S11)) ∧ (¬ (v12 ≤ 0) → (-2147483648 ≤ ((v12 + 1) : Int) ∧ (v12 + 1) ≤ 2147483647) ∧ CX_opens g [mt, mi 2, mi (S11 21 a1), mi (v12 + 1)] S11 (Qv fun S14 => mI S14 → ((v12 ≤ 0) → Qp (some (mi 0)) S14) ∧ (¬ (v12 ≤ 0) → Qp (some (mi 1)) S14))))) ∧ ((S 20 a1) = 3 → CX_opens g [mt, mi 0, mi 0, mi 0] S (Qv fun S15 => mI S15 → Qp (some (mi 1)) S15)) ∧ ((S 20 a1) < 0 ∨ 3 < (S 20 a1) → Qp (some (mi 0)) S))
    : CX_operand g [mt, mi a1] S Qp := by
  refine cm_y ⟨by decide, rfl⟩ (by simp [mcat]) (by simp) (fun _ _ _ _ _ => False) ?_ ?_
  · intro ha hS P Y Wk hIc
    have h := hE hS (mokI (ha (mi a1) (by simp)))
    clear hE ha
    refine y_aload_n 0 Y dX6_operand_0 rfl ?_
    refine y_geta 1 Y 20 dX6_operand_1 rfl rfl ?_
    refine y_iload_n 4 Y dX6_operand_4 rfl ?_
    obtain ⟨o1, h⟩ := h
    obtain ⟨o2, h⟩ := h
    refine y_iald 5 Y dX6_operand_5 rfl rfl o1 o2 (fun _ => ?_)
    refine y_table 6 Y dX6_operand_6 rfl (And.intro (fun c => ?_) (And.intro (fun c => ?_) (And.intro (fun c => ?_) (And.intro (fun c => ?_) trivial)))) (fun c => ?_)
    · replace h := h.1 c
      refine y_aload_n 36 Y dX6_operand_36 rfl ?_
      refine y_iconst 37 Y dX6_operand_37 rfl ?_
      refine y_aload_n 38 Y dX6_operand_38 rfl ?_
      refine y_geta 39 Y 21 dX6_operand_39 rfl rfl ?_
      refine y_iload_n 42 Y dX6_operand_42 rfl ?_
      refine y_iald 43 Y dX6_operand_43 rfl rfl o1 o2 (fun _ => ?_)
      refine y_iconst 44 Y dX6_operand_44 rfl ?_
      refine y_iconst 45 Y dX6_operand_45 rfl ?_
      refine y_call 46 Y (as := [mi 0, mi (S 21 a1), mi (-1), mi 0]) [] dX6_operand_46 rfl rfl rfl rfl rfl h (fun r S3 hq hI _ => ?_)
      obtain ⟨rfl, h⟩ := Qv_ok hq
      replace h := h hI
      clear hq
      refine y_iconst 49 Y dX6_operand_49 rfl ?_
      exact y_zret 50 Y dX6_operand_50 rfl (by decide) h
    · replace h := h.2.1 c
      refine y_aload_n 51 Y dX6_operand_51 rfl ?_
      refine y_iload_n 52 Y dX6_operand_52 rfl ?_
      refine y_call 53 Y (as := [mi a1]) [] dX6_operand_53 rfl rfl rfl rfl rfl h (fun r S4 hq hI hr => ?_)
      obtain ⟨v5, rfl, h⟩ := Qi_ok hq
      replace h := h hI (mokI (hr _ rfl))
      clear hq hr
      refine y_istore_n 56 Y [some mt, some (mi a1), some (mi v5), none] dX6_operand_56 rfl rfl ?_
      refine y_iload_n 57 Y dX6_operand_57 rfl ?_
      refine y_aload_n 58 Y dX6_operand_58 rfl ?_
      refine y_getf 59 Y 25 dX6_operand_59 rfl rfl (fun _ => ?_)
      refine y_icmp 62 90 Y dX6_operand_62 rfl rfl (fun c => ?_) (fun c => ?_)
      · replace h := h.1 c
        refine y_aload_n 90 Y dX6_operand_90 rfl ?_
        refine y_iconst 91 Y dX6_operand_91 rfl ?_
        refine y_aload_n 92 Y dX6_operand_92 rfl ?_
        refine y_geta 93 Y 21 dX6_operand_93 rfl rfl ?_
        refine y_iload_n 96 Y dX6_operand_96 rfl ?_
        refine y_iald 97 Y dX6_operand_97 rfl rfl o1 o2 (fun _ => ?_)
        refine y_iconst 98 Y dX6_operand_98 rfl ?_
        refine y_iconst 99 Y dX6_operand_99 rfl ?_
        refine y_call 100 Y (as := [mi 1, mi (S4 21 a1), mi (-1), mi 0]) [] dX6_operand_100 rfl rfl rfl rfl rfl h (fun r S6 hq hI _ => ?_)
        obtain ⟨rfl, h⟩ := Qv_ok hq
        replace h := h hI
        clear hq
        refine y_iconst 103 Y dX6_operand_103 rfl ?_
        exact y_zret 104 Y dX6_operand_104 rfl (by decide) h
      · replace h := h.2 c
        refine y_aload_n 65 Y dX6_operand_65 rfl ?_
        refine y_geta 66 Y 20 dX6_operand_66 rfl rfl ?_
        refine y_iload_n 69 Y dX6_operand_69 rfl ?_
        obtain ⟨o7, h⟩ := h
        obtain ⟨o8, h⟩ := h
        refine y_iald 70 Y dX6_operand_70 rfl rfl o7 o8 (fun _ => ?_)
        refine y_iconst 71 Y dX6_operand_71 rfl ?_
        refine y_icmp 72 90 Y dX6_operand_72 rfl rfl (fun c => ?_) (fun c => ?_)
        · replace h := h.1 c
          refine y_aload_n 90 Y dX6_operand_90 rfl ?_
          refine y_iconst 91 Y dX6_operand_91 rfl ?_
          refine y_aload_n 92 Y dX6_operand_92 rfl ?_
          refine y_geta 93 Y 21 dX6_operand_93 rfl rfl ?_
          refine y_iload_n 96 Y dX6_operand_96 rfl ?_
          refine y_iald 97 Y dX6_operand_97 rfl rfl o1 o2 (fun _ => ?_)
          refine y_iconst 98 Y dX6_operand_98 rfl ?_
          refine y_iconst 99 Y dX6_operand_99 rfl ?_
          refine y_call 100 Y (as := [mi 1, mi (S4 21 a1), mi (-1), mi 0]) [] dX6_operand_100 rfl rfl rfl rfl rfl h (fun r S9 hq hI _ => ?_)
          obtain ⟨rfl, h⟩ := Qv_ok hq
          replace h := h hI
          clear hq
          refine y_iconst 103 Y dX6_operand_103 rfl ?_
          exact y_zret 104 Y dX6_operand_104 rfl (by decide) h
        · replace h := h.2 c
          refine y_aload_n 75 Y dX6_operand_75 rfl ?_
          refine y_iconst 76 Y dX6_operand_76 rfl ?_
          refine y_aload_n 77 Y dX6_operand_77 rfl ?_
          refine y_geta 78 Y 21 dX6_operand_78 rfl rfl ?_
          refine y_iload_n 81 Y dX6_operand_81 rfl ?_
          refine y_iald 82 Y dX6_operand_82 rfl rfl o1 o2 (fun _ => ?_)
          refine y_iconst 83 Y dX6_operand_83 rfl ?_
          refine y_call 84 Y (as := [mi 1, mi (S4 21 a1), mi 1]) [] dX6_operand_84 rfl rfl rfl rfl rfl h (fun r S10 hq hI _ => ?_)
          obtain ⟨rfl, h⟩ := Qv_ok hq
          replace h := h hI
          clear hq
          refine y_goto 87 103 Y dX6_operand_87 rfl rfl ?_
          refine y_iconst 103 Y dX6_operand_103 rfl ?_
          exact y_zret 104 Y dX6_operand_104 rfl (by decide) h
    · replace h := h.2.2.1 c
      refine y_aload_n 114 Y dX6_operand_114 rfl ?_
      refine y_aload_n 115 Y dX6_operand_115 rfl ?_
      refine y_geta 116 Y 21 dX6_operand_116 rfl rfl ?_
      refine y_iload_n 119 Y dX6_operand_119 rfl ?_
      refine y_iald 120 Y dX6_operand_120 rfl rfl o1 o2 (fun _ => ?_)
      refine y_iconst 121 Y dX6_operand_121 rfl ?_
      refine y_call 122 Y (as := [mi (S 21 a1), mi 0]) [] dX6_operand_122 rfl rfl rfl rfl rfl h (fun r S11 hq hI hr => ?_)
      obtain ⟨v12, rfl, h⟩ := Qi_ok hq
      replace h := h hI (mokI (hr _ rfl))
      clear hq hr
      refine y_istore_n 125 Y [some mt, some (mi a1), none, some (mi v12)] dX6_operand_125 rfl rfl ?_
      refine y_iload_n 126 Y dX6_operand_126 rfl ?_
      refine y_if 127 144 Y dX6_operand_127 rfl rfl (fun c => ?_) (fun c => ?_)
      · replace h := h.1 c
        refine y_iload_n 144 Y dX6_operand_144 rfl ?_
        refine y_if 145 152 Y dX6_operand_145 rfl rfl (fun c => ?_) (fun c => ?_)
        · replace h := h.1 c
          refine y_iconst 152 Y dX6_operand_152 rfl ?_
          exact y_zret 153 Y dX6_operand_153 rfl (by decide) h
        · replace h := h.2 c
          refine y_iconst 148 Y dX6_operand_148 rfl ?_
          refine y_goto 149 153 Y dX6_operand_149 rfl rfl ?_
          exact y_zret 153 Y dX6_operand_153 rfl (by decide) h
      · replace h := h.2 c
        refine y_aload_n 130 Y dX6_operand_130 rfl ?_
        refine y_iconst 131 Y dX6_operand_131 rfl ?_
        refine y_aload_n 132 Y dX6_operand_132 rfl ?_
        refine y_geta 133 Y 21 dX6_operand_133 rfl rfl ?_
        refine y_iload_n 136 Y dX6_operand_136 rfl ?_
        refine y_iald 137 Y dX6_operand_137 rfl rfl o1 o2 (fun _ => ?_)
        refine y_iload_n 138 Y dX6_operand_138 rfl ?_
        refine y_iconst 139 Y dX6_operand_139 rfl ?_
        obtain ⟨o13, h⟩ := h
        refine y_iadd 140 Y dX6_operand_140 o13 ?_
        refine y_call 141 Y (as := [mi 2, mi (S11 21 a1), mi (v12 + 1)]) [] dX6_operand_141 rfl rfl rfl rfl rfl h (fun r S14 hq hI _ => ?_)
        obtain ⟨rfl, h⟩ := Qv_ok hq
        replace h := h hI
        clear hq
        refine y_iload_n 144 Y dX6_operand_144 rfl ?_
        refine y_if 145 152 Y dX6_operand_145 rfl rfl (fun c => ?_) (fun c => ?_)
        · replace h := h.1 c
          refine y_iconst 152 Y dX6_operand_152 rfl ?_
          exact y_zret 153 Y dX6_operand_153 rfl (by decide) h
        · replace h := h.2 c
          refine y_iconst 148 Y dX6_operand_148 rfl ?_
          refine y_goto 149 153 Y dX6_operand_149 rfl rfl ?_
          exact y_zret 153 Y dX6_operand_153 rfl (by decide) h
    · replace h := h.2.2.2.1 c
      refine y_aload_n 105 Y dX6_operand_105 rfl ?_
      refine y_iconst 106 Y dX6_operand_106 rfl ?_
      refine y_iconst 107 Y dX6_operand_107 rfl ?_
      refine y_iconst 108 Y dX6_operand_108 rfl ?_
      refine y_call 109 Y (as := [mi 0, mi 0, mi 0]) [] dX6_operand_109 rfl rfl rfl rfl rfl h (fun r S15 hq hI _ => ?_)
      obtain ⟨rfl, h⟩ := Qv_ok hq
      replace h := h hI
      clear hq
      refine y_iconst 112 Y dX6_operand_112 rfl ?_
      exact y_zret 113 Y dX6_operand_113 rfl (by decide) h
    · replace h := h.2.2.2.2 c
      refine y_iconst 154 Y dX6_operand_154 rfl ?_
      exact y_zret 155 Y dX6_operand_155 rfl (by decide) h
  · intro n pc L st T hi
    exact hi.elim

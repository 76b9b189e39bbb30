/-! Contracts out of conditions; printed by gen_vc.py. -/
set_option maxRecDepth 100000
set_option maxHeartbeats 4000000 in
theorem of_callFunction {g : mG} {S : mS} {a1 a2 a3 : Int} {Qp : Option mV → mS → Prop} (I103 : Nat → Int → Int → Int → Int → mS → Prop)
    (hE : mI S → (-2147483648 ≤ a1 ∧ a1 ≤ 2147483647) → (-2147483648 ≤ a2 ∧ a2 ≤ 2147483647) → (-2147483648 ≤ a3 ∧ a3 ≤ 2147483647) → (0 ≤ a2) ∧ (a2 < 20300) ∧ (0 ≤ a3) ∧ (a3 < 26) ∧ (((S 11 a3) ≠ (S 7 a2)) → Qp (some (mi 5)) S) ∧ (¬ ((S 11 a3) ≠ (S 7 a2)) → (((S 7 a2) ≠ 0) → (((S 63 0) ≠ 12) → (-2147483648 ≤ (((S 63 0) + 1) : Int) ∧ ((S 63 0) + 1) ≤ 2147483647) ∧ (0 ≤ a1) ∧ (a1 < 800) ∧ (0 ≤ (S 60 0)) ∧ ((S 60 0) < 500) ∧ (-2147483648 ≤ (((S 61 0) - (S 7 a2)) : Int) ∧ ((S 61 0) - (S 7 a2)) ≤ 2147483647) ∧ (∃ n1, I103 n1 a1 a3 (S 7 a2) 0 (mup (mup (mup (mup (mup (mup S 63 0 ((S 63 0) + 1)) 51 a1 (S 60 0)) 58 (S 60 0) (S 7 a2)) 57 (S 60 0) 0) 59 (S 60 0) (-1)) 61 0 ((S 61 0) - (S 7 a2))))) ∧ (¬ ((S 63 0) ≠ 12) → Qp (some (mi 8)) S)) ∧ (¬ ((S 7 a2) ≠ 0) → Qp (some (mi 5)) S)))
    (h103 : ∀ (n : Nat) (l1 l3 l4 l5 : Int) (T : mS), mI T → (-2147483648 ≤ l1 ∧ l1 ≤ 2147483647) → (-2147483648 ≤ l3 ∧ l3 ≤ 2147483647) → (-2147483648 ≤ l4 ∧ l4 ≤ 2147483647) → (-2147483648 ≤ l5 ∧ l5 ≤ 2147483647) → I103 n l1 l3 l4 l5 T → ((l4 ≤ l5) → (-2147483648 ≤ (((T 60 0) + 1) : Int) ∧ ((T 60 0) + 1) ≤ 2147483647) ∧ (0 ≤ l1) ∧ (l1 < 800) ∧ (-2147483648 ≤ ((l4 + 1) : Int) ∧ (l4 + 1) ≤ 2147483647) ∧ Qp (some (mi 0)) (mup (mup (mup (mup (mup (mup T 60 0 ((T 60 0) + 1)) 52 l1 l3) 53 l1 0) 54 l1 (-1)) 55 l1 0) 49 l1 (l4 + 1))) ∧ (¬ (l4 ≤ l5) → (-2147483648 ≤ ((3 * (T 60 0)) : Int) ∧ (3 * (T 60 0)) ≤ 2147483647) ∧ (-2147483648 ≤ ((1000 + (3 * (T 60 0))) : Int) ∧ (1000 + (3 * (T 60 0))) ≤ 2147483647) ∧ (-2147483648 ≤ (((1000 + (3 * (T 60 0))) + l5) : Int) ∧ ((1000 + (3 * (T 60 0))) + l5) ≤ 2147483647) ∧ (-2147483648 ≤ ((60 + (T 61 0)) : Int) ∧ (60 + (T 61 0)) ≤ 2147483647) ∧ (-2147483648 ≤ (((60 + (T 61 0)) + l5) : Int) ∧ ((60 + (T 61 0)) + l5) ≤ 2147483647) ∧ CX_copyValue g [mt, mi ((1000 + (3 * (T 60 0))) + l5), mi ((60 + (T 61 0)) + l5)] T (Qv fun S10 => mI S10 → (-2147483648 ≤ ((l5 + 1) : Int) ∧ (l5 + 1) ≤ 2147483647) ∧ (∃ n1, n1 < n ∧ I103 n1 l1 l3 l4 (l5 + 1) S10))))
    : CX_callFunction g [mt, mi a1, mi a2, mi a3] S Qp := by
  refine cm_y ⟨by decide, rfl⟩ (by simp [mcat]) (by simp) (fun n pc L st S => (pc = 103 ∧ ∃ (l1 : Int) (l3 : Int) (l4 : Int) (l5 : Int), L = [some mt, some (mi l1), none, some (mi l3), some (mi l4), some (mi l5)] ∧ st = [] ∧ I103 n l1 l3 l4 l5 S)) ?_ ?_
  · intro ha hS P Y Wk hIc
    have h := hE hS (mokI (ha (mi a1) (by simp))) (mokI (ha (mi a2) (by simp))) (mokI (ha (mi a3) (by simp)))
    clear hE ha h103
    refine y_aload_n 0 Y dX6_callFunction_0 rfl ?_
    refine y_geta 1 Y 7 dX6_callFunction_1 rfl rfl ?_
    refine y_iload_n 4 Y dX6_callFunction_4 rfl ?_
    obtain ⟨o1, h⟩ := h
    obtain ⟨o2, h⟩ := h
    refine y_iald 5 Y dX6_callFunction_5 rfl rfl o1 o2 (fun _ => ?_)
    refine y_istore 6 Y [some mt, some (mi a1), some (mi a2), some (mi a3), some (mi (S 7 a2)), none] dX6_callFunction_6 rfl rfl ?_
    refine y_aload_n 8 Y dX6_callFunction_8 rfl ?_
    refine y_geta 9 Y 11 dX6_callFunction_9 rfl rfl ?_
    refine y_iload_n 12 Y dX6_callFunction_12 rfl ?_
    obtain ⟨o3, h⟩ := h
    obtain ⟨o4, h⟩ := h
    refine y_iald 13 Y dX6_callFunction_13 rfl rfl o3 o4 (fun _ => ?_)
    refine y_iload 14 Y dX6_callFunction_14 rfl ?_
    refine y_icmp 16 24 Y dX6_callFunction_16 rfl rfl (fun c => ?_) (fun c => ?_)
    · replace h := h.1 c
      refine y_iconst 24 Y dX6_callFunction_24 rfl ?_
      exact y_iret 25 Y dX6_callFunction_25 rfl h
    · replace h := h.2 c
      refine y_iload 19 Y dX6_callFunction_19 rfl ?_
      refine y_if 21 26 Y dX6_callFunction_21 rfl rfl (fun c => ?_) (fun c => ?_)
      · replace h := h.1 c
        refine y_aload_n 26 Y dX6_callFunction_26 rfl ?_
        refine y_getf 27 Y 63 dX6_callFunction_27 rfl rfl (fun _ => ?_)
        refine y_bipush 30 Y dX6_callFunction_30 rfl ?_
        refine y_icmp 32 38 Y dX6_callFunction_32 rfl rfl (fun c => ?_) (fun c => ?_)
        · replace h := h.1 c
          refine y_aload_n 38 Y dX6_callFunction_38 rfl ?_
          refine y_dup 39 Y dX6_callFunction_39 rfl ?_
          refine y_getf 40 Y 63 dX6_callFunction_40 rfl rfl (fun _ => ?_)
          refine y_iconst 43 Y dX6_callFunction_43 rfl ?_
          obtain ⟨o5, h⟩ := h
          refine y_iadd 44 Y dX6_callFunction_44 o5 ?_
          refine y_putf 45 Y 63 dX6_callFunction_45 rfl rfl (fun q => absurd q (by decide)) ?_
          refine y_aload_n 48 Y dX6_callFunction_48 rfl ?_
          refine y_geta 49 Y 51 dX6_callFunction_49 rfl rfl ?_
          refine y_iload_n 52 Y dX6_callFunction_52 rfl ?_
          refine y_aload_n 53 Y dX6_callFunction_53 rfl ?_
          refine y_getf 54 Y 60 dX6_callFunction_54 rfl rfl (fun _ => ?_)
          obtain ⟨o6, h⟩ := h
          obtain ⟨o7, h⟩ := h
          refine y_iast 57 Y dX6_callFunction_57 rfl rfl o6 o7 ?_
          refine y_aload_n 58 Y dX6_callFunction_58 rfl ?_
          refine y_geta 59 Y 58 dX6_callFunction_59 rfl rfl ?_
          refine y_aload_n 62 Y dX6_callFunction_62 rfl ?_
          refine y_getf 63 Y 60 dX6_callFunction_63 rfl rfl (fun _ => ?_)
          refine y_iload 66 Y dX6_callFunction_66 rfl ?_
          obtain ⟨o8, h⟩ := h
          obtain ⟨o9, h⟩ := h
          refine y_iast 68 Y dX6_callFunction_68 rfl rfl o8 o9 ?_
          refine y_aload_n 69 Y dX6_callFunction_69 rfl ?_
          refine y_geta 70 Y 57 dX6_callFunction_70 rfl rfl ?_
          refine y_aload_n 73 Y dX6_callFunction_73 rfl ?_
          refine y_getf 74 Y 60 dX6_callFunction_74 rfl rfl (fun _ => ?_)
          refine y_iconst 77 Y dX6_callFunction_77 rfl ?_
          refine y_iast 78 Y dX6_callFunction_78 rfl rfl o8 o9 ?_
          refine y_aload_n 79 Y dX6_callFunction_79 rfl ?_
          refine y_geta 80 Y 59 dX6_callFunction_80 rfl rfl ?_
          refine y_aload_n 83 Y dX6_callFunction_83 rfl ?_
          refine y_getf 84 Y 60 dX6_callFunction_84 rfl rfl (fun _ => ?_)
          refine y_iconst 87 Y dX6_callFunction_87 rfl ?_
          refine y_iast 88 Y dX6_callFunction_88 rfl rfl o8 o9 ?_
          refine y_aload_n 89 Y dX6_callFunction_89 rfl ?_
          refine y_dup 90 Y dX6_callFunction_90 rfl ?_
          refine y_getf 91 Y 61 dX6_callFunction_91 rfl rfl (fun _ => ?_)
          refine y_iload 94 Y dX6_callFunction_94 rfl ?_
          obtain ⟨o10, h⟩ := h
          refine y_isub 96 Y dX6_callFunction_96 o10 ?_
          refine y_putf 97 Y 61 dX6_callFunction_97 rfl rfl (fun q => absurd q (by decide)) ?_
          refine y_iconst 100 Y dX6_callFunction_100 rfl ?_
          refine y_istore 101 Y [some mt, some (mi a1), some (mi a2), some (mi a3), some (mi (S 7 a2)), some (mi 0)] dX6_callFunction_101 rfl rfl ?_
          obtain ⟨n1, h⟩ := h
          exact Wk 103 _ [some mt, some (mi a1), none, some (mi a3), some (mi (S 7 a2)), some (mi 0)] _ _ ⟨rfl, ⟨rfl, ⟨rfl, ⟨rfl, ⟨rfl, trivial⟩⟩⟩⟩⟩ (hIc n1 _ _ _ _ ((⟨rfl, _, _, _, _, rfl, rfl, h⟩)))
        · replace h := h.2 c
          refine y_bipush 35 Y dX6_callFunction_35 rfl ?_
          exact y_iret 37 Y dX6_callFunction_37 rfl h
      · replace h := h.2 c
        refine y_iconst 24 Y dX6_callFunction_24 rfl ?_
        exact y_iret 25 Y dX6_callFunction_25 rfl h
  · intro n pc L st T hi hS hL P Y Wk hIc
    clear hE
    rcases hi with ⟨rfl, l1, l3, l4, l5, rfl, rfl, hi⟩
    · have h := h103 n l1 l3 l4 l5 T hS (hL 1 _ rfl) (hL 3 _ rfl) (hL 4 _ rfl) (hL 5 _ rfl) hi
      clear hL hi h103
      refine y_iload 103 Y dX6_callFunction_103 rfl ?_
      refine y_iload 105 Y dX6_callFunction_105 rfl ?_
      refine y_icmp 107 143 Y dX6_callFunction_107 rfl rfl (fun c => ?_) (fun c => ?_)
      · replace h := h.1 c
        refine y_aload_n 143 Y dX6_callFunction_143 rfl ?_
        refine y_dup 144 Y dX6_callFunction_144 rfl ?_
        refine y_getf 145 Y 60 dX6_callFunction_145 rfl rfl (fun _ => ?_)
        refine y_iconst 148 Y dX6_callFunction_148 rfl ?_
        obtain ⟨o1, h⟩ := h
        refine y_iadd 149 Y dX6_callFunction_149 o1 ?_
        refine y_putf 150 Y 60 dX6_callFunction_150 rfl rfl (fun q => absurd q (by decide)) ?_
        refine y_aload_n 153 Y dX6_callFunction_153 rfl ?_
        refine y_geta 154 Y 52 dX6_callFunction_154 rfl rfl ?_
        refine y_iload_n 157 Y dX6_callFunction_157 rfl ?_
        refine y_iload_n 158 Y dX6_callFunction_158 rfl ?_
        obtain ⟨o2, h⟩ := h
        obtain ⟨o3, h⟩ := h
        refine y_iast 159 Y dX6_callFunction_159 rfl rfl o2 o3 ?_
        refine y_aload_n 160 Y dX6_callFunction_160 rfl ?_
        refine y_geta 161 Y 53 dX6_callFunction_161 rfl rfl ?_
        refine y_iload_n 164 Y dX6_callFunction_164 rfl ?_
        refine y_iconst 165 Y dX6_callFunction_165 rfl ?_
        refine y_iast 166 Y dX6_callFunction_166 rfl rfl o2 o3 ?_
        refine y_aload_n 167 Y dX6_callFunction_167 rfl ?_
        refine y_geta 168 Y 54 dX6_callFunction_168 rfl rfl ?_
        refine y_iload_n 171 Y dX6_callFunction_171 rfl ?_
        refine y_iconst 172 Y dX6_callFunction_172 rfl ?_
        refine y_iast 173 Y dX6_callFunction_173 rfl rfl o2 o3 ?_
        refine y_aload_n 174 Y dX6_callFunction_174 rfl ?_
        refine y_geta 175 Y 55 dX6_callFunction_175 rfl rfl ?_
        refine y_iload_n 178 Y dX6_callFunction_178 rfl ?_
        refine y_iconst 179 Y dX6_callFunction_179 rfl ?_
        refine y_iast 180 Y dX6_callFunction_180 rfl rfl o2 o3 ?_
        refine y_aload_n 181 Y dX6_callFunction_181 rfl ?_
        refine y_geta 182 Y 49 dX6_callFunction_182 rfl rfl ?_
        refine y_iload_n 185 Y dX6_callFunction_185 rfl ?_
        refine y_iload 186 Y dX6_callFunction_186 rfl ?_
        refine y_iconst 188 Y dX6_callFunction_188 rfl ?_
        obtain ⟨o4, h⟩ := h
        refine y_iadd 189 Y dX6_callFunction_189 o4 ?_
        refine y_iast 190 Y dX6_callFunction_190 rfl rfl o2 o3 ?_
        refine y_iconst 191 Y dX6_callFunction_191 rfl ?_
        exact y_iret 192 Y dX6_callFunction_192 rfl h
      · replace h := h.2 c
        refine y_aload_n 110 Y dX6_callFunction_110 rfl ?_
        refine y_sipush 111 Y dX6_callFunction_111 rfl ?_
        refine y_iconst 114 Y dX6_callFunction_114 rfl ?_
        refine y_aload_n 115 Y dX6_callFunction_115 rfl ?_
        refine y_getf 116 Y 60 dX6_callFunction_116 rfl rfl (fun _ => ?_)
        obtain ⟨o5, h⟩ := h
        refine y_imul 119 Y dX6_callFunction_119 o5 ?_
        obtain ⟨o6, h⟩ := h
        refine y_iadd 120 Y dX6_callFunction_120 o6 ?_
        refine y_iload 121 Y dX6_callFunction_121 rfl ?_
        obtain ⟨o7, h⟩ := h
        refine y_iadd 123 Y dX6_callFunction_123 o7 ?_
        refine y_bipush 124 Y dX6_callFunction_124 rfl ?_
        refine y_aload_n 126 Y dX6_callFunction_126 rfl ?_
        refine y_getf 127 Y 61 dX6_callFunction_127 rfl rfl (fun _ => ?_)
        obtain ⟨o8, h⟩ := h
        refine y_iadd 130 Y dX6_callFunction_130 o8 ?_
        refine y_iload 131 Y dX6_callFunction_131 rfl ?_
        obtain ⟨o9, h⟩ := h
        refine y_iadd 133 Y dX6_callFunction_133 o9 ?_
        refine y_call 134 Y (as := [mi ((1000 + (3 * (T 60 0))) + l5), mi ((60 + (T 61 0)) + l5)]) [] dX6_callFunction_134 rfl rfl rfl rfl rfl h (fun r S10 hq hI _ => ?_)
        obtain ⟨rfl, h⟩ := Qv_ok hq
        replace h := h hI
        clear hq
        obtain ⟨o11, h⟩ := h
        refine y_iinc 137 Y [some mt, some (mi l1), none, some (mi l3), some (mi l4), some (mi (l5 + 1))] dX6_callFunction_137 rfl rfl o11 ?_
        refine y_goto 140 103 Y dX6_callFunction_140 rfl rfl ?_
        obtain ⟨n1, hn, h⟩ := h
        exact Wk 103 _ [some mt, some (mi l1), none, some (mi l3), some (mi l4), some (mi (l5 + 1))] _ _ ⟨rfl, ⟨rfl, ⟨rfl, ⟨rfl, ⟨rfl, trivial⟩⟩⟩⟩⟩ (hIc n1 _ _ _ _ hn ((⟨rfl, _, _, _, _, rfl, rfl, h⟩)))
set_option maxHeartbeats 4000000 in
theorem of_cases {g : mG} {S : mS} {a1 a2 : Int} {Qp : Option mV → mS → Prop}
    (hE : mI S → (-2147483648 ≤ a1 ∧ a1 ≤ 2147483647) → (-2147483648 ≤ a2 ∧ a2 ≤ 2147483647) → (0 ≤ a1) ∧ (a1 < 800) ∧ ((a2 ≠ 3) → ((a2 ≠ 2) → (0 ≤ (S 52 a1)) ∧ ((S 52 a1) < 26) ∧ (((S 53 a1) ≠ (S 12 (S 52 a1))) → (-2147483648 ≤ ((8 * (S 52 a1)) : Int) ∧ (8 * (S 52 a1)) ≤ 2147483647) ∧ (-2147483648 ≤ ((2 * (S 53 a1)) : Int) ∧ (2 * (S 53 a1)) ≤ 2147483647) ∧ (-2147483648 ≤ (((8 * (S 52 a1)) + (2 * (S 53 a1))) : Int) ∧ ((8 * (S 52 a1)) + (2 * (S 53 a1))) ≤ 2147483647) ∧ (0 ≤ ((8 * (S 52 a1)) + (2 * (S 53 a1)))) ∧ (((8 * (S 52 a1)) + (2 * (S 53 a1))) < 208) ∧ (((S 13 ((8 * (S 52 a1)) + (2 * (S 53 a1)))) ≠ 0) → (-2147483648 ≤ (((S 49 a1) + 1) : Int) ∧ ((S 49 a1) + 1) ≤ 2147483647) ∧ CX_caseAt g [mi (S 52 a1), mi (S 53 a1), mi 0] (mup S 49 a1 ((S 49 a1) + 1)) (Qi fun v12 S11 => mI S11 → (-2147483648 ≤ v12 ∧ v12 ≤ 2147483647) → CX_enter g [mt, mi v12, mi (S11 51 a1)] S11 (Qv fun S13 => mI S13 → Qp (some (mi 0)) S13))) ∧ (¬ ((S 13 ((8 * (S 52 a1)) + (2 * (S 53 a1)))) ≠ 0) → CX_holds g [mt, mi a1, mi 1] S (Qv fun S14 => mI S14 → Qp (some (mi 0)) S14))) ∧ (¬ ((S 53 a1) ≠ (S 12 (S 52 a1))) → (((S 55 a1) = 1) → (-2147483648 ≤ (((S 49 a1) + 2) : Int) ∧ ((S 49 a1) + 2) ≤ 2147483647) ∧ CX_caseAt g [mi (S 52 a1), mi (S 54 a1), mi 1] (mup S 49 a1 ((S 49 a1) + 2)) (Qi fun v17 S16 => mI S16 → (-2147483648 ≤ v17 ∧ v17 ≤ 2147483647) → CX_enter g [mt, mi v17, mi (S16 51 a1)] S16 (Qv fun S18 => mI S18 → Qp (some (mi 0)) S18))) ∧ (¬ ((S 55 a1) = 1) → (((S 55 a1) ≠ 0) → Qp (some (mi 7)) S) ∧ (¬ ((S 55 a1) ≠ 0) → Qp (some (mi 6)) S)))) ∧ (¬ (a2 ≠ 2) → CX_top g [mt] S (Qi fun v20 S19 => mI S19 → (-2147483648 ≤ v20 ∧ v20 ≤ 2147483647) → CX_sign_2 g [mt, mi v20] S19 (Qi fun v22 S21 => mI S21 → (-2147483648 ≤ v22 ∧ v22 ≤ 2147483647) → ((v22 = 0) → (-2147483648 ≤ (((S21 61 0) - 1) : Int) ∧ ((S21 61 0) - 1) ≤ 2147483647) ∧ (-2147483648 ≤ (((S21 49 a1) - 1) : Int) ∧ ((S21 49 a1) - 1) ≤ 2147483647) ∧ CX_holds g [mt, mi a1, mi 0] (mup (mup S21 61 0 ((S21 61 0) - 1)) 49 a1 ((S21 49 a1) - 1)) (Qv fun S25 => mI S25 → Qp (some (mi 0)) S25)) ∧ (¬ (v22 = 0) → (-2147483648 ≤ (((S21 61 0) - 1) : Int) ∧ ((S21 61 0) - 1) ≤ 2147483647) ∧ (-2147483648 ≤ (((S21 49 a1) - 1) : Int) ∧ ((S21 49 a1) - 1) ≤ 2147483647) ∧ CX_holds g [mt, mi a1, mi 1] (mup (mup S21 61 0 ((S21 61 0) - 1)) 49 a1 ((S21 49 a1) - 1)) (Qv fun S28 => mI S28 → Qp (some (mi 0)) S28)))))) ∧ (¬ (a2 ≠ 3) → (-2147483648 ≤ (((S 63 0) - 1) : Int) ∧ ((S 63 0) - 1) ≤ 2147483647) ∧ (-2147483648 ≤ (((S 56 0) - 1) : Int) ∧ ((S 56 0) - 1) ≤ 2147483647) ∧ Qp (some (mi 0)) (mup (mup (mup S 63 0 ((S 63 0) - 1)) 60 0 (S 51 a1)) 56 0 ((S 56 0) - 1))))
    : CX_cases g [mt, mi a1, mi a2] S Qp := by
  refine cm_y ⟨by decide, rfl⟩ (by simp [mcat]) (by simp) (fun _ _ _ _ _ => False) ?_ ?_
  · intro ha hS P Y Wk hIc
    have h := hE hS (mokI (ha (mi a1) (by simp))) (mokI (ha (mi a2) (by simp)))
    clear hE ha
    refine y_aload_n 0 Y dX6_cases_0 rfl ?_
    refine y_geta 1 Y 52 dX6_cases_1 rfl rfl ?_
    refine y_iload_n 4 Y dX6_cases_4 rfl ?_
    obtain ⟨o1, h⟩ := h
    obtain ⟨o2, h⟩ := h
    refine y_iald 5 Y dX6_cases_5 rfl rfl o1 o2 (fun _ => ?_)
    refine y_istore_n 6 Y [some mt, some (mi a1), some (mi a2), some (mi (S 52 a1)), none] dX6_cases_6 rfl rfl ?_
    refine y_iload_n 7 Y dX6_cases_7 rfl ?_
    refine y_iconst 8 Y dX6_cases_8 rfl ?_
    refine y_icmp 9 44 Y dX6_cases_9 rfl rfl (fun c => ?_) (fun c => ?_)
    · replace h := h.1 c
      refine y_iload_n 44 Y dX6_cases_44 rfl ?_
      refine y_iconst 45 Y dX6_cases_45 rfl ?_
      refine y_icmp 46 96 Y dX6_cases_46 rfl rfl (fun c => ?_) (fun c => ?_)
      · replace h := h.1 c
        refine y_aload_n 96 Y dX6_cases_96 rfl ?_
        refine y_geta 97 Y 53 dX6_cases_97 rfl rfl ?_
        refine y_iload_n 100 Y dX6_cases_100 rfl ?_
        refine y_iald 101 Y dX6_cases_101 rfl rfl o1 o2 (fun _ => ?_)
        refine y_istore 102 Y [some mt, some (mi a1), some (mi a2), some (mi (S 52 a1)), some (mi (S 53 a1))] dX6_cases_102 rfl rfl ?_
        refine y_iload 104 Y dX6_cases_104 rfl ?_
        refine y_aload_n 106 Y dX6_cases_106 rfl ?_
        refine y_geta 107 Y 12 dX6_cases_107 rfl rfl ?_
        refine y_iload_n 110 Y dX6_cases_110 rfl ?_
        obtain ⟨o3, h⟩ := h
        obtain ⟨o4, h⟩ := h
        refine y_iald 111 Y dX6_cases_111 rfl rfl o3 o4 (fun _ => ?_)
        refine y_icmp 112 176 Y dX6_cases_112 rfl rfl (fun c => ?_) (fun c => ?_)
        · replace h := h.1 c
          refine y_aload_n 176 Y dX6_cases_176 rfl ?_
          refine y_geta 177 Y 13 dX6_cases_177 rfl rfl ?_
          refine y_bipush 180 Y dX6_cases_180 rfl ?_
          refine y_iload_n 182 Y dX6_cases_182 rfl ?_
          obtain ⟨o5, h⟩ := h
          refine y_imul 183 Y dX6_cases_183 o5 ?_
          refine y_iconst 184 Y dX6_cases_184 rfl ?_
          refine y_iload 185 Y dX6_cases_185 rfl ?_
          obtain ⟨o6, h⟩ := h
          refine y_imul 187 Y dX6_cases_187 o6 ?_
          obtain ⟨o7, h⟩ := h
          refine y_iadd 188 Y dX6_cases_188 o7 ?_
          obtain ⟨o8, h⟩ := h
          obtain ⟨o9, h⟩ := h
          refine y_iald 189 Y dX6_cases_189 rfl rfl o8 o9 (fun _ => ?_)
          refine y_if 190 202 Y dX6_cases_190 rfl rfl (fun c => ?_) (fun c => ?_)
          · replace h := h.1 c
            refine y_aload_n 202 Y dX6_cases_202 rfl ?_
            refine y_geta 203 Y 49 dX6_cases_203 rfl rfl ?_
            refine y_iload_n 206 Y dX6_cases_206 rfl ?_
            refine y_dup2 207 Y dX6_cases_207 rfl rfl ?_
            refine y_iald 208 Y dX6_cases_208 rfl rfl o1 o2 (fun _ => ?_)
            refine y_iconst 209 Y dX6_cases_209 rfl ?_
            obtain ⟨o10, h⟩ := h
            refine y_iadd 210 Y dX6_cases_210 o10 ?_
            refine y_iast 211 Y dX6_cases_211 rfl rfl o1 o2 ?_
            refine y_aload_n 212 Y dX6_cases_212 rfl ?_
            refine y_iload_n 213 Y dX6_cases_213 rfl ?_
            refine y_iload 214 Y dX6_cases_214 rfl ?_
            refine y_iconst 216 Y dX6_cases_216 rfl ?_
            refine y_calls 217 Y (as := [mi (S 52 a1), mi (S 53 a1), mi 0]) [mt] dX6_cases_217 rfl rfl rfl rfl rfl h (fun r S11 hq hI hr => ?_)
            obtain ⟨v12, rfl, h⟩ := Qi_ok hq
            replace h := h hI (mokI (hr _ rfl))
            clear hq hr
            refine y_aload_n 220 Y dX6_cases_220 rfl ?_
            refine y_geta 221 Y 51 dX6_cases_221 rfl rfl ?_
            refine y_iload_n 224 Y dX6_cases_224 rfl ?_
            refine y_iald 225 Y dX6_cases_225 rfl rfl o1 o2 (fun _ => ?_)
            refine y_call 226 Y (as := [mi v12, mi (S11 51 a1)]) [] dX6_cases_226 rfl rfl rfl rfl rfl h (fun r S13 hq hI _ => ?_)
            obtain ⟨rfl, h⟩ := Qv_ok hq
            replace h := h hI
            clear hq
            refine y_iconst 229 Y dX6_cases_229 rfl ?_
            exact y_iret 230 Y dX6_cases_230 rfl h
          · replace h := h.2 c
            refine y_aload_n 193 Y dX6_cases_193 rfl ?_
            refine y_iload_n 194 Y dX6_cases_194 rfl ?_
            refine y_iconst 195 Y dX6_cases_195 rfl ?_
            refine y_call 196 Y (as := [mi a1, mi 1]) [] dX6_cases_196 rfl rfl rfl rfl rfl h (fun r S14 hq hI _ => ?_)
            obtain ⟨rfl, h⟩ := Qv_ok hq
            replace h := h hI
            clear hq
            refine y_goto 199 229 Y dX6_cases_199 rfl rfl ?_
            refine y_iconst 229 Y dX6_cases_229 rfl ?_
            exact y_iret 230 Y dX6_cases_230 rfl h
        · replace h := h.2 c
          refine y_aload_n 115 Y dX6_cases_115 rfl ?_
          refine y_geta 116 Y 55 dX6_cases_116 rfl rfl ?_
          refine y_iload_n 119 Y dX6_cases_119 rfl ?_
          refine y_iald 120 Y dX6_cases_120 rfl rfl o1 o2 (fun _ => ?_)
          refine y_iconst 121 Y dX6_cases_121 rfl ?_
          refine y_icmp 122 142 Y dX6_cases_122 rfl rfl (fun c => ?_) (fun c => ?_)
          · replace h := h.1 c
            refine y_aload_n 142 Y dX6_cases_142 rfl ?_
            refine y_geta 143 Y 49 dX6_cases_143 rfl rfl ?_
            refine y_iload_n 146 Y dX6_cases_146 rfl ?_
            refine y_dup2 147 Y dX6_cases_147 rfl rfl ?_
            refine y_iald 148 Y dX6_cases_148 rfl rfl o1 o2 (fun _ => ?_)
            refine y_iconst 149 Y dX6_cases_149 rfl ?_
            obtain ⟨o15, h⟩ := h
            refine y_iadd 150 Y dX6_cases_150 o15 ?_
            refine y_iast 151 Y dX6_cases_151 rfl rfl o1 o2 ?_
            refine y_aload_n 152 Y dX6_cases_152 rfl ?_
            refine y_iload_n 153 Y dX6_cases_153 rfl ?_
            refine y_aload_n 154 Y dX6_cases_154 rfl ?_
            refine y_geta 155 Y 54 dX6_cases_155 rfl rfl ?_
            refine y_iload_n 158 Y dX6_cases_158 rfl ?_
            refine y_iald 159 Y dX6_cases_159 rfl rfl o1 o2 (fun _ => ?_)
            refine y_iconst 160 Y dX6_cases_160 rfl ?_
            refine y_calls 161 Y (as := [mi (S 52 a1), mi (S 54 a1), mi 1]) [mt] dX6_cases_161 rfl rfl rfl rfl rfl h (fun r S16 hq hI hr => ?_)
            obtain ⟨v17, rfl, h⟩ := Qi_ok hq
            replace h := h hI (mokI (hr _ rfl))
            clear hq hr
            refine y_aload_n 164 Y dX6_cases_164 rfl ?_
            refine y_geta 165 Y 51 dX6_cases_165 rfl rfl ?_
            refine y_iload_n 168 Y dX6_cases_168 rfl ?_
            refine y_iald 169 Y dX6_cases_169 rfl rfl o1 o2 (fun _ => ?_)
            refine y_call 170 Y (as := [mi v17, mi (S16 51 a1)]) [] dX6_cases_170 rfl rfl rfl rfl rfl h (fun r S18 hq hI _ => ?_)
            obtain ⟨rfl, h⟩ := Qv_ok hq
            replace h := h hI
            clear hq
            refine y_goto 173 229 Y dX6_cases_173 rfl rfl ?_
            refine y_iconst 229 Y dX6_cases_229 rfl ?_
            exact y_iret 230 Y dX6_cases_230 rfl h
          · replace h := h.2 c
            refine y_aload_n 125 Y dX6_cases_125 rfl ?_
            refine y_geta 126 Y 55 dX6_cases_126 rfl rfl ?_
            refine y_iload_n 129 Y dX6_cases_129 rfl ?_
            refine y_iald 130 Y dX6_cases_130 rfl rfl o1 o2 (fun _ => ?_)
            refine y_if 131 139 Y dX6_cases_131 rfl rfl (fun c => ?_) (fun c => ?_)
            · replace h := h.1 c
              refine y_bipush 139 Y dX6_cases_139 rfl ?_
              exact y_iret 141 Y dX6_cases_141 rfl h
            · replace h := h.2 c
              refine y_bipush 134 Y dX6_cases_134 rfl ?_
              refine y_goto 136 141 Y dX6_cases_136 rfl rfl ?_
              exact y_iret 141 Y dX6_cases_141 rfl h
      · replace h := h.2 c
        refine y_aload_n 49 Y dX6_cases_49 rfl ?_
        refine y_aload_n 50 Y dX6_cases_50 rfl ?_
        refine y_call 51 Y (as := []) [mt] dX6_cases_51 rfl rfl rfl rfl rfl h (fun r S19 hq hI hr => ?_)
        obtain ⟨v20, rfl, h⟩ := Qi_ok hq
        replace h := h hI (mokI (hr _ rfl))
        clear hq hr
        refine y_call 54 Y (as := [mi v20]) [] dX6_cases_54 rfl rfl rfl rfl rfl h (fun r S21 hq hI hr => ?_)
        obtain ⟨v22, rfl, h⟩ := Qi_ok hq
        replace h := h hI (mokI (hr _ rfl))
        clear hq hr
        refine y_if 57 64 Y dX6_cases_57 rfl rfl (fun c => ?_) (fun c => ?_)
        · replace h := h.1 c
          refine y_iconst 64 Y dX6_cases_64 rfl ?_
          refine y_istore 65 Y [some mt, some (mi a1), some (mi a2), some (mi (S 52 a1)), some (mi 0)] dX6_cases_65 rfl rfl ?_
          refine y_aload_n 67 Y dX6_cases_67 rfl ?_
          refine y_dup 68 Y dX6_cases_68 rfl ?_
          refine y_getf 69 Y 61 dX6_cases_69 rfl rfl (fun _ => ?_)
          refine y_iconst 72 Y dX6_cases_72 rfl ?_
          obtain ⟨o23, h⟩ := h
          refine y_isub 73 Y dX6_cases_73 o23 ?_
          refine y_putf 74 Y 61 dX6_cases_74 rfl rfl (fun q => absurd q (by decide)) ?_
          refine y_aload_n 77 Y dX6_cases_77 rfl ?_
          refine y_geta 78 Y 49 dX6_cases_78 rfl rfl ?_
          refine y_iload_n 81 Y dX6_cases_81 rfl ?_
          refine y_dup2 82 Y dX6_cases_82 rfl rfl ?_
          refine y_iald 83 Y dX6_cases_83 rfl rfl o1 o2 (fun _ => ?_)
          refine y_iconst 84 Y dX6_cases_84 rfl ?_
          obtain ⟨o24, h⟩ := h
          refine y_isub 85 Y dX6_cases_85 o24 ?_
          refine y_iast 86 Y dX6_cases_86 rfl rfl o1 o2 ?_
          refine y_aload_n 87 Y dX6_cases_87 rfl ?_
          refine y_iload_n 88 Y dX6_cases_88 rfl ?_
          refine y_iload 89 Y dX6_cases_89 rfl ?_
          refine y_call 91 Y (as := [mi a1, mi 0]) [] dX6_cases_91 rfl rfl rfl rfl rfl h (fun r S25 hq hI _ => ?_)
          obtain ⟨rfl, h⟩ := Qv_ok hq
          replace h := h hI
          clear hq
          refine y_iconst 94 Y dX6_cases_94 rfl ?_
          exact y_iret 95 Y dX6_cases_95 rfl h
        · replace h := h.2 c
          refine y_iconst 60 Y dX6_cases_60 rfl ?_
          refine y_goto 61 65 Y dX6_cases_61 rfl rfl ?_
          refine y_istore 65 Y [some mt, some (mi a1), some (mi a2), some (mi (S 52 a1)), some (mi 1)] dX6_cases_65 rfl rfl ?_
          refine y_aload_n 67 Y dX6_cases_67 rfl ?_
          refine y_dup 68 Y dX6_cases_68 rfl ?_
          refine y_getf 69 Y 61 dX6_cases_69 rfl rfl (fun _ => ?_)
          refine y_iconst 72 Y dX6_cases_72 rfl ?_
          obtain ⟨o26, h⟩ := h
          refine y_isub 73 Y dX6_cases_73 o26 ?_
          refine y_putf 74 Y 61 dX6_cases_74 rfl rfl (fun q => absurd q (by decide)) ?_
          refine y_aload_n 77 Y dX6_cases_77 rfl ?_
          refine y_geta 78 Y 49 dX6_cases_78 rfl rfl ?_
          refine y_iload_n 81 Y dX6_cases_81 rfl ?_
          refine y_dup2 82 Y dX6_cases_82 rfl rfl ?_
          refine y_iald 83 Y dX6_cases_83 rfl rfl o1 o2 (fun _ => ?_)
          refine y_iconst 84 Y dX6_cases_84 rfl ?_
          obtain ⟨o27, h⟩ := h
          refine y_isub 85 Y dX6_cases_85 o27 ?_
          refine y_iast 86 Y dX6_cases_86 rfl rfl o1 o2 ?_
          refine y_aload_n 87 Y dX6_cases_87 rfl ?_
          refine y_iload_n 88 Y dX6_cases_88 rfl ?_
          refine y_iload 89 Y dX6_cases_89 rfl ?_
          refine y_call 91 Y (as := [mi a1, mi 1]) [] dX6_cases_91 rfl rfl rfl rfl rfl h (fun r S28 hq hI _ => ?_)
          obtain ⟨rfl, h⟩ := Qv_ok hq
          replace h := h hI
          clear hq
          refine y_iconst 94 Y dX6_cases_94 rfl ?_
          exact y_iret 95 Y dX6_cases_95 rfl h
    · replace h := h.2 c
      refine y_aload_n 12 Y dX6_cases_12 rfl ?_
      refine y_dup 13 Y dX6_cases_13 rfl ?_
      refine y_getf 14 Y 63 dX6_cases_14 rfl rfl (fun _ => ?_)
      refine y_iconst 17 Y dX6_cases_17 rfl ?_
      obtain ⟨o29, h⟩ := h
      refine y_isub 18 Y dX6_cases_18 o29 ?_
      refine y_putf 19 Y 63 dX6_cases_19 rfl rfl (fun q => absurd q (by decide)) ?_
      refine y_aload_n 22 Y dX6_cases_22 rfl ?_
      refine y_aload_n 23 Y dX6_cases_23 rfl ?_
      refine y_geta 24 Y 51 dX6_cases_24 rfl rfl ?_
      refine y_iload_n 27 Y dX6_cases_27 rfl ?_
      refine y_iald 28 Y dX6_cases_28 rfl rfl o1 o2 (fun _ => ?_)
      refine y_putf 29 Y 60 dX6_cases_29 rfl rfl (fun q => absurd q (by decide)) ?_
      refine y_aload_n 32 Y dX6_cases_32 rfl ?_
      refine y_dup 33 Y dX6_cases_33 rfl ?_
      refine y_getf 34 Y 56 dX6_cases_34 rfl rfl (fun _ => ?_)
      refine y_iconst 37 Y dX6_cases_37 rfl ?_
      obtain ⟨o30, h⟩ := h
      refine y_isub 38 Y dX6_cases_38 o30 ?_
      refine y_putf 39 Y 56 dX6_cases_39 rfl rfl (fun q => absurd q (by decide)) ?_
      refine y_iconst 42 Y dX6_cases_42 rfl ?_
      exact y_iret 43 Y dX6_cases_43 rfl h
  · intro n pc L st T hi
    exact hi.elim
set_option maxHeartbeats 4000000 in
theorem of_choose {g : mG} {S : mS} {a1 a2 : Int} {Qp : Option mV → mS → Prop}
    (hE : mI S → (-2147483648 ≤ a1 ∧ a1 ≤ 2147483647) → (-2147483648 ≤ a2 ∧ a2 ≤ 2147483647) → (0 ≤ a1) ∧ (a1 < 800) ∧ (((S 49 a1) ≠ 0) → CX_top g [mt] S (Qi fun v4 S3 => mI S3 → (-2147483648 ≤ v4 ∧ v4 ≤ 2147483647) → CX_sign_2 g [mt, mi v4] S3 (Qi fun v6 S5 => mI S5 → (-2147483648 ≤ v6 ∧ v6 ≤ 2147483647) → ((v6 = 0) → (-2147483648 ≤ (((S5 61 0) - 1) : Int) ∧ ((S5 61 0) - 1) ≤ 2147483647) ∧ (-2147483648 ≤ (((S5 56 0) - 1) : Int) ∧ ((S5 56 0) - 1) ≤ 2147483647) ∧ CX_child g [mt, mi a2, mi 2] (mup (mup S5 61 0 ((S5 61 0) - 1)) 56 0 ((S5 56 0) - 1)) (Qi fun v10 S9 => mI S9 → (-2147483648 ≤ v10 ∧ v10 ≤ 2147483647) → CX_enter g [mt, mi v10, mi (S9 50 a1)] S9 (Qv fun S11 => mI S11 → Qp (some (mi 0)) S11))) ∧ (¬ (v6 = 0) → (-2147483648 ≤ (((S5 61 0) - 1) : Int) ∧ ((S5 61 0) - 1) ≤ 2147483647) ∧ (-2147483648 ≤ (((S5 56 0) - 1) : Int) ∧ ((S5 56 0) - 1) ≤ 2147483647) ∧ CX_child g [mt, mi a2, mi 1] (mup (mup S5 61 0 ((S5 61 0) - 1)) 56 0 ((S5 56 0) - 1)) (Qi fun v15 S14 => mI S14 → (-2147483648 ≤ v15 ∧ v15 ≤ 2147483647) → CX_enter g [mt, mi v15, mi (S14 50 a1)] S14 (Qv fun S16 => mI S16 → Qp (some (mi 0)) S16)))))) ∧ (¬ ((S 49 a1) ≠ 0) → CX_count g [mt] S (Qi fun v18 S17 => mI S17 → (-2147483648 ≤ v18 ∧ v18 ≤ 2147483647) → ((0 < v18) → ((v18 ≤ 0) → Qp (some (mi 5)) S17) ∧ (¬ (v18 ≤ 0) → Qp (some (mi v18)) S17)) ∧ (¬ (0 < v18) → (0 ≤ a2) ∧ (a2 < 20300) ∧ (((S17 7 a2) = 3) → (-2147483648 ≤ ((a2 + 1) : Int) ∧ (a2 + 1) ≤ 2147483647) ∧ CX_enter g [mt, mi (a2 + 1), mi (S17 50 a1)] (mup S17 49 a1 1) (Qv fun S22 => mI S22 → Qp (some (mi 0)) S22)) ∧ (¬ ((S17 7 a2) = 3) → ((v18 ≤ 0) → Qp (some (mi 5)) S17) ∧ (¬ (v18 ≤ 0) → Qp (some (mi v18)) S17))))))
    : CX_choose g [mt, mi a1, mi a2] S Qp := by
  refine cm_y ⟨by decide, rfl⟩ (by simp [mcat]) (by simp) (fun _ _ _ _ _ => False) ?_ ?_
  · intro ha hS P Y Wk hIc
    have h := hE hS (mokI (ha (mi a1) (by simp))) (mokI (ha (mi a2) (by simp)))
    clear hE ha
    refine y_aload_n 0 Y dX6_choose_0 rfl ?_
    refine y_geta 1 Y 49 dX6_choose_1 rfl rfl ?_
    refine y_iload_n 4 Y dX6_choose_4 rfl ?_
    obtain ⟨o1, h⟩ := h
    obtain ⟨o2, h⟩ := h
    refine y_iald 5 Y dX6_choose_5 rfl rfl o1 o2 (fun _ => ?_)
    refine y_if 6 60 Y dX6_choose_6 rfl rfl (fun c => ?_) (fun c => ?_)
    · replace h := h.1 c
      refine y_aload_n 60 Y dX6_choose_60 rfl ?_
      refine y_aload_n 61 Y dX6_choose_61 rfl ?_
      refine y_call 62 Y (as := []) [mt] dX6_choose_62 rfl rfl rfl rfl rfl h (fun r S3 hq hI hr => ?_)
      obtain ⟨v4, rfl, h⟩ := Qi_ok hq
      replace h := h hI (mokI (hr _ rfl))
      clear hq hr
      refine y_call 65 Y (as := [mi v4]) [] dX6_choose_65 rfl rfl rfl rfl rfl h (fun r S5 hq hI hr => ?_)
      obtain ⟨v6, rfl, h⟩ := Qi_ok hq
      replace h := h hI (mokI (hr _ rfl))
      clear hq hr
      refine y_if 68 75 Y dX6_choose_68 rfl rfl (fun c => ?_) (fun c => ?_)
      · replace h := h.1 c
        refine y_iconst 75 Y dX6_choose_75 rfl ?_
        refine y_istore_n 76 Y [some mt, some (mi a1), some (mi a2), some (mi 0)] dX6_choose_76 rfl rfl ?_
        refine y_aload_n 77 Y dX6_choose_77 rfl ?_
        refine y_dup 78 Y dX6_choose_78 rfl ?_
        refine y_getf 79 Y 61 dX6_choose_79 rfl rfl (fun _ => ?_)
        refine y_iconst 82 Y dX6_choose_82 rfl ?_
        obtain ⟨o7, h⟩ := h
        refine y_isub 83 Y dX6_choose_83 o7 ?_
        refine y_putf 84 Y 61 dX6_choose_84 rfl rfl (fun q => absurd q (by decide)) ?_
        refine y_aload_n 87 Y dX6_choose_87 rfl ?_
        refine y_dup 88 Y dX6_choose_88 rfl ?_
        refine y_getf 89 Y 56 dX6_choose_89 rfl rfl (fun _ => ?_)
        refine y_iconst 92 Y dX6_choose_92 rfl ?_
        obtain ⟨o8, h⟩ := h
        refine y_isub 93 Y dX6_choose_93 o8 ?_
        refine y_putf 94 Y 56 dX6_choose_94 rfl rfl (fun q => absurd q (by decide)) ?_
        refine y_aload_n 97 Y dX6_choose_97 rfl ?_
        refine y_aload_n 98 Y dX6_choose_98 rfl ?_
        refine y_iload_n 99 Y dX6_choose_99 rfl ?_
        refine y_iload_n 100 Y dX6_choose_100 rfl ?_
        refine y_if 101 108 Y dX6_choose_101 rfl rfl (fun _ => ?_) (fun c => absurd (show (0 : Int) = 0 by decide) c)
        refine y_iconst 108 Y dX6_choose_108 rfl ?_
        refine y_call 109 Y (as := [mi a2, mi 2]) [mt] dX6_choose_109 rfl rfl rfl rfl rfl h (fun r S9 hq hI hr => ?_)
        obtain ⟨v10, rfl, h⟩ := Qi_ok hq
        replace h := h hI (mokI (hr _ rfl))
        clear hq hr
        refine y_aload_n 112 Y dX6_choose_112 rfl ?_
        refine y_geta 113 Y 50 dX6_choose_113 rfl rfl ?_
        refine y_iload_n 116 Y dX6_choose_116 rfl ?_
        refine y_iald 117 Y dX6_choose_117 rfl rfl o1 o2 (fun _ => ?_)
        refine y_call 118 Y (as := [mi v10, mi (S9 50 a1)]) [] dX6_choose_118 rfl rfl rfl rfl rfl h (fun r S11 hq hI _ => ?_)
        obtain ⟨rfl, h⟩ := Qv_ok hq
        replace h := h hI
        clear hq
        refine y_iconst 121 Y dX6_choose_121 rfl ?_
        exact y_iret 122 Y dX6_choose_122 rfl h
      · replace h := h.2 c
        refine y_iconst 71 Y dX6_choose_71 rfl ?_
        refine y_goto 72 76 Y dX6_choose_72 rfl rfl ?_
        refine y_istore_n 76 Y [some mt, some (mi a1), some (mi a2), some (mi 1)] dX6_choose_76 rfl rfl ?_
        refine y_aload_n 77 Y dX6_choose_77 rfl ?_
        refine y_dup 78 Y dX6_choose_78 rfl ?_
        refine y_getf 79 Y 61 dX6_choose_79 rfl rfl (fun _ => ?_)
        refine y_iconst 82 Y dX6_choose_82 rfl ?_
        obtain ⟨o12, h⟩ := h
        refine y_isub 83 Y dX6_choose_83 o12 ?_
        refine y_putf 84 Y 61 dX6_choose_84 rfl rfl (fun q => absurd q (by decide)) ?_
        refine y_aload_n 87 Y dX6_choose_87 rfl ?_
        refine y_dup 88 Y dX6_choose_88 rfl ?_
        refine y_getf 89 Y 56 dX6_choose_89 rfl rfl (fun _ => ?_)
        refine y_iconst 92 Y dX6_choose_92 rfl ?_
        obtain ⟨o13, h⟩ := h
        refine y_isub 93 Y dX6_choose_93 o13 ?_
        refine y_putf 94 Y 56 dX6_choose_94 rfl rfl (fun q => absurd q (by decide)) ?_
        refine y_aload_n 97 Y dX6_choose_97 rfl ?_
        refine y_aload_n 98 Y dX6_choose_98 rfl ?_
        refine y_iload_n 99 Y dX6_choose_99 rfl ?_
        refine y_iload_n 100 Y dX6_choose_100 rfl ?_
        refine y_if 101 108 Y dX6_choose_101 rfl rfl (fun c => absurd c (show ¬ ((1 : Int) = 0) by decide)) (fun _ => ?_)
        refine y_iconst 104 Y dX6_choose_104 rfl ?_
        refine y_goto 105 109 Y dX6_choose_105 rfl rfl ?_
        refine y_call 109 Y (as := [mi a2, mi 1]) [mt] dX6_choose_109 rfl rfl rfl rfl rfl h (fun r S14 hq hI hr => ?_)
        obtain ⟨v15, rfl, h⟩ := Qi_ok hq
        replace h := h hI (mokI (hr _ rfl))
        clear hq hr
        refine y_aload_n 112 Y dX6_choose_112 rfl ?_
        refine y_geta 113 Y 50 dX6_choose_113 rfl rfl ?_
        refine y_iload_n 116 Y dX6_choose_116 rfl ?_
        refine y_iald 117 Y dX6_choose_117 rfl rfl o1 o2 (fun _ => ?_)
        refine y_call 118 Y (as := [mi v15, mi (S14 50 a1)]) [] dX6_choose_118 rfl rfl rfl rfl rfl h (fun r S16 hq hI _ => ?_)
        obtain ⟨rfl, h⟩ := Qv_ok hq
        replace h := h hI
        clear hq
        refine y_iconst 121 Y dX6_choose_121 rfl ?_
        exact y_iret 122 Y dX6_choose_122 rfl h
    · replace h := h.2 c
      refine y_aload_n 9 Y dX6_choose_9 rfl ?_
      refine y_call 10 Y (as := []) [] dX6_choose_10 rfl rfl rfl rfl rfl h (fun r S17 hq hI hr => ?_)
      obtain ⟨v18, rfl, h⟩ := Qi_ok hq
      replace h := h hI (mokI (hr _ rfl))
      clear hq hr
      refine y_istore_n 13 Y [some mt, some (mi a1), some (mi a2), some (mi v18)] dX6_choose_13 rfl rfl ?_
      refine y_iload_n 14 Y dX6_choose_14 rfl ?_
      refine y_if 15 28 Y dX6_choose_15 rfl rfl (fun c => ?_) (fun c => ?_)
      · replace h := h.1 c
        refine y_iload_n 28 Y dX6_choose_28 rfl ?_
        refine y_if 29 36 Y dX6_choose_29 rfl rfl (fun c => ?_) (fun c => ?_)
        · replace h := h.1 c
          refine y_iconst 36 Y dX6_choose_36 rfl ?_
          exact y_iret 37 Y dX6_choose_37 rfl h
        · replace h := h.2 c
          refine y_iload_n 32 Y dX6_choose_32 rfl ?_
          refine y_goto 33 37 Y dX6_choose_33 rfl rfl ?_
          exact y_iret 37 Y dX6_choose_37 rfl h
      · replace h := h.2 c
        refine y_aload_n 18 Y dX6_choose_18 rfl ?_
        refine y_geta 19 Y 7 dX6_choose_19 rfl rfl ?_
        refine y_iload_n 22 Y dX6_choose_22 rfl ?_
        obtain ⟨o19, h⟩ := h
        obtain ⟨o20, h⟩ := h
        refine y_iald 23 Y dX6_choose_23 rfl rfl o19 o20 (fun _ => ?_)
        refine y_iconst 24 Y dX6_choose_24 rfl ?_
        refine y_icmp 25 38 Y dX6_choose_25 rfl rfl (fun c => ?_) (fun c => ?_)
        · replace h := h.1 c
          refine y_aload_n 38 Y dX6_choose_38 rfl ?_
          refine y_geta 39 Y 49 dX6_choose_39 rfl rfl ?_
          refine y_iload_n 42 Y dX6_choose_42 rfl ?_
          refine y_iconst 43 Y dX6_choose_43 rfl ?_
          refine y_iast 44 Y dX6_choose_44 rfl rfl o1 o2 ?_
          refine y_aload_n 45 Y dX6_choose_45 rfl ?_
          refine y_iload_n 46 Y dX6_choose_46 rfl ?_
          refine y_iconst 47 Y dX6_choose_47 rfl ?_
          obtain ⟨o21, h⟩ := h
          refine y_iadd 48 Y dX6_choose_48 o21 ?_
          refine y_aload_n 49 Y dX6_choose_49 rfl ?_
          refine y_geta 50 Y 50 dX6_choose_50 rfl rfl ?_
          refine y_iload_n 53 Y dX6_choose_53 rfl ?_
          refine y_iald 54 Y dX6_choose_54 rfl rfl o1 o2 (fun _ => ?_)
          refine y_call 55 Y (as := [mi (a2 + 1), mi (S17 50 a1)]) [] dX6_choose_55 rfl rfl rfl rfl rfl h (fun r S22 hq hI _ => ?_)
          obtain ⟨rfl, h⟩ := Qv_ok hq
          replace h := h hI
          clear hq
          refine y_iconst 58 Y dX6_choose_58 rfl ?_
          exact y_iret 59 Y dX6_choose_59 rfl h
        · replace h := h.2 c
          refine y_iload_n 28 Y dX6_choose_28 rfl ?_
          refine y_if 29 36 Y dX6_choose_29 rfl rfl (fun c => ?_) (fun c => ?_)
          · replace h := h.1 c
            refine y_iconst 36 Y dX6_choose_36 rfl ?_
            exact y_iret 37 Y dX6_choose_37 rfl h
          · replace h := h.2 c
            refine y_iload_n 32 Y dX6_choose_32 rfl ?_
            refine y_goto 33 37 Y dX6_choose_33 rfl rfl ?_
            exact y_iret 37 Y dX6_choose_37 rfl h
  · intro n pc L st T hi
    exact hi.elim
set_option maxHeartbeats 4000000 in
theorem of_coefficient {g : mG} {S : mS} {a1 : Int} {Qp : Option mV → mS → Prop}
    (hE : mI S → (-2147483648 ≤ a1 ∧ a1 ≤ 2147483647) → CX_in g [mi a1, mi 0, mi 8] S (Qi fun v2 S1 => mI S1 → (-2147483648 ≤ v2 ∧ v2 ≤ 2147483647) → ((v2 ≠ 0) → CX_refused g [mt, mi 0, mi 0, mi 0] S1 (Qi fun v4 S3 => mI S3 → (-2147483648 ≤ v4 ∧ v4 ≤ 2147483647) → ((v4 = 0) → (-2147483648 ≤ ((47 + a1) : Int) ∧ (47 + a1) ≤ 2147483647) ∧ CX_copyValue g [mt, mi 26, mi (47 + a1)] S3 (Qv fun S6 => mI S6 → CX_sign_2 g [mt, mi 26] S6 (Qi fun v8 S7 => mI S7 → (-2147483648 ≤ v8 ∧ v8 ≤ 2147483647) → ((v8 = 0) → Qp (some (mi 0)) S7) ∧ (¬ (v8 = 0) → Qp (some (mi 1)) S7)))) ∧ (¬ (v4 = 0) → Qp (some (mi 0)) S3))) ∧ (¬ (v2 ≠ 0) → CX_refused g [mt, mi 1, mi 0, mi 0] S1 (Qi fun v10 S9 => mI S9 → (-2147483648 ≤ v10 ∧ v10 ≤ 2147483647) → ((v10 = 0) → (-2147483648 ≤ ((47 + a1) : Int) ∧ (47 + a1) ≤ 2147483647) ∧ CX_copyValue g [mt, mi 26, mi (47 + a1)] S9 (Qv fun S12 => mI S12 → CX_sign_2 g [mt, mi 26] S12 (Qi fun v14 S13 => mI S13 → (-2147483648 ≤ v14 ∧ v14 ≤ 2147483647) → ((v14 = 0) → Qp (some (mi 0)) S13) ∧ (¬ (v14 = 0) → Qp (some (mi 1)) S13)))) ∧ (¬ (v10 = 0) → Qp (some (mi 0)) S9)))))
    : CX_coefficient g [mt, mi a1] S Qp := by
  refine cm_y ⟨by decide, rfl⟩ (by simp [mcat]) (by simp) (fun _ _ _ _ _ => False) ?_ ?_
  · intro ha hS P Y Wk hIc
    have h := hE hS (mokI (ha (mi a1) (by simp)))
    clear hE ha
    refine y_aload_n 0 Y dX6_coefficient_0 rfl ?_
    refine y_iload_n 1 Y dX6_coefficient_1 rfl ?_
    refine y_iconst 2 Y dX6_coefficient_2 rfl ?_
    refine y_bipush 3 Y dX6_coefficient_3 rfl ?_
    refine y_calls 5 Y (as := [mi a1, mi 0, mi 8]) [mt] dX6_coefficient_5 rfl rfl rfl rfl rfl h (fun r S1 hq hI hr => ?_)
    obtain ⟨v2, rfl, h⟩ := Qi_ok hq
    replace h := h hI (mokI (hr _ rfl))
    clear hq hr
    refine y_if 8 15 Y dX6_coefficient_8 rfl rfl (fun c => ?_) (fun c => ?_)
    · replace h := h.1 c
      refine y_iconst 15 Y dX6_coefficient_15 rfl ?_
      refine y_iconst 16 Y dX6_coefficient_16 rfl ?_
      refine y_iconst 17 Y dX6_coefficient_17 rfl ?_
      refine y_call 18 Y (as := [mi 0, mi 0, mi 0]) [] dX6_coefficient_18 rfl rfl rfl rfl rfl h (fun r S3 hq hI hr => ?_)
      obtain ⟨v4, rfl, h⟩ := Qi_ok hq
      replace h := h hI (mokI (hr _ rfl))
      clear hq hr
      refine y_if 21 26 Y dX6_coefficient_21 rfl rfl (fun c => ?_) (fun c => ?_)
      · replace h := h.1 c
        refine y_aload_n 26 Y dX6_coefficient_26 rfl ?_
        refine y_bipush 27 Y dX6_coefficient_27 rfl ?_
        refine y_bipush 29 Y dX6_coefficient_29 rfl ?_
        refine y_iload_n 31 Y dX6_coefficient_31 rfl ?_
        obtain ⟨o5, h⟩ := h
        refine y_iadd 32 Y dX6_coefficient_32 o5 ?_
        refine y_call 33 Y (as := [mi 26, mi (47 + a1)]) [] dX6_coefficient_33 rfl rfl rfl rfl rfl h (fun r S6 hq hI _ => ?_)
        obtain ⟨rfl, h⟩ := Qv_ok hq
        replace h := h hI
        clear hq
        refine y_aload_n 36 Y dX6_coefficient_36 rfl ?_
        refine y_bipush 37 Y dX6_coefficient_37 rfl ?_
        refine y_call 39 Y (as := [mi 26]) [] dX6_coefficient_39 rfl rfl rfl rfl rfl h (fun r S7 hq hI hr => ?_)
        obtain ⟨v8, rfl, h⟩ := Qi_ok hq
        replace h := h hI (mokI (hr _ rfl))
        clear hq hr
        refine y_if 42 49 Y dX6_coefficient_42 rfl rfl (fun c => ?_) (fun c => ?_)
        · replace h := h.1 c
          refine y_iconst 49 Y dX6_coefficient_49 rfl ?_
          exact y_zret 50 Y dX6_coefficient_50 rfl (by decide) h
        · replace h := h.2 c
          refine y_iconst 45 Y dX6_coefficient_45 rfl ?_
          refine y_goto 46 50 Y dX6_coefficient_46 rfl rfl ?_
          exact y_zret 50 Y dX6_coefficient_50 rfl (by decide) h
      · replace h := h.2 c
        refine y_iconst 24 Y dX6_coefficient_24 rfl ?_
        exact y_zret 25 Y dX6_coefficient_25 rfl (by decide) h
    · replace h := h.2 c
      refine y_iconst 11 Y dX6_coefficient_11 rfl ?_
      refine y_goto 12 16 Y dX6_coefficient_12 rfl rfl ?_
      refine y_iconst 16 Y dX6_coefficient_16 rfl ?_
      refine y_iconst 17 Y dX6_coefficient_17 rfl ?_
      refine y_call 18 Y (as := [mi 1, mi 0, mi 0]) [] dX6_coefficient_18 rfl rfl rfl rfl rfl h (fun r S9 hq hI hr => ?_)
      obtain ⟨v10, rfl, h⟩ := Qi_ok hq
      replace h := h hI (mokI (hr _ rfl))
      clear hq hr
      refine y_if 21 26 Y dX6_coefficient_21 rfl rfl (fun c => ?_) (fun c => ?_)
      · replace h := h.1 c
        refine y_aload_n 26 Y dX6_coefficient_26 rfl ?_
        refine y_bipush 27 Y dX6_coefficient_27 rfl ?_
        refine y_bipush 29 Y dX6_coefficient_29 rfl ?_
        refine y_iload_n 31 Y dX6_coefficient_31 rfl ?_
        obtain ⟨o11, h⟩ := h
        refine y_iadd 32 Y dX6_coefficient_32 o11 ?_
        refine y_call 33 Y (as := [mi 26, mi (47 + a1)]) [] dX6_coefficient_33 rfl rfl rfl rfl rfl h (fun r S12 hq hI _ => ?_)
        obtain ⟨rfl, h⟩ := Qv_ok hq
        replace h := h hI
        clear hq
        refine y_aload_n 36 Y dX6_coefficient_36 rfl ?_
        refine y_bipush 37 Y dX6_coefficient_37 rfl ?_
        refine y_call 39 Y (as := [mi 26]) [] dX6_coefficient_39 rfl rfl rfl rfl rfl h (fun r S13 hq hI hr => ?_)
        obtain ⟨v14, rfl, h⟩ := Qi_ok hq
        replace h := h hI (mokI (hr _ rfl))
        clear hq hr
        refine y_if 42 49 Y dX6_coefficient_42 rfl rfl (fun c => ?_) (fun c => ?_)
        · replace h := h.1 c
          refine y_iconst 49 Y dX6_coefficient_49 rfl ?_
          exact y_zret 50 Y dX6_coefficient_50 rfl (by decide) h
        · replace h := h.2 c
          refine y_iconst 45 Y dX6_coefficient_45 rfl ?_
          refine y_goto 46 50 Y dX6_coefficient_46 rfl rfl ?_
          exact y_zret 50 Y dX6_coefficient_50 rfl (by decide) h
      · replace h := h.2 c
        refine y_iconst 24 Y dX6_coefficient_24 rfl ?_
        exact y_zret 25 Y dX6_coefficient_25 rfl (by decide) h
  · intro n pc L st T hi
    exact hi.elim
set_option maxHeartbeats 4000000 in
theorem of_copyPolynomial {g : mG} {S : mS} {a1 a2 : Int} {Qp : Option mV → mS → Prop} (I2 : Nat → Int → Int → Int → mS → Prop)
    (hE : mI S → (-2147483648 ≤ a1 ∧ a1 ≤ 2147483647) → (-2147483648 ≤ a2 ∧ a2 ≤ 2147483647) → (∃ n1, I2 n1 a1 a2 0 S))
    (h2 : ∀ (n : Nat) (l1 l2 l3 : Int) (T : mS), mI T → (-2147483648 ≤ l1 ∧ l1 ≤ 2147483647) → (-2147483648 ≤ l2 ∧ l2 ≤ 2147483647) → (-2147483648 ≤ l3 ∧ l3 ≤ 2147483647) → I2 n l1 l2 l3 T → ((9 ≤ l3) → Qp none T) ∧ (¬ (9 ≤ l3) → CX_coefficientAt g [mi l1, mi l3] T (Qi fun v2 S1 => mI S1 → (-2147483648 ≤ v2 ∧ v2 ≤ 2147483647) → CX_coefficientAt g [mi l2, mi l3] S1 (Qi fun v4 S3 => mI S3 → (-2147483648 ≤ v4 ∧ v4 ≤ 2147483647) → CX_copyValue g [mt, mi v2, mi v4] S3 (Qv fun S5 => mI S5 → (-2147483648 ≤ ((l3 + 1) : Int) ∧ (l3 + 1) ≤ 2147483647) ∧ (∃ n1, n1 < n ∧ I2 n1 l1 l2 (l3 + 1) S5))))))
    : CX_copyPolynomial g [mt, mi a1, mi a2] S Qp := by
  refine cm_y ⟨by decide, rfl⟩ (by simp [mcat]) (by simp) (fun n pc L st S => (pc = 2 ∧ ∃ (l1 : Int) (l2 : Int) (l3 : Int), L = [some mt, some (mi l1), some (mi l2), some (mi l3)] ∧ st = [] ∧ I2 n l1 l2 l3 S)) ?_ ?_
  · intro ha hS P Y Wk hIc
    have h := hE hS (mokI (ha (mi a1) (by simp))) (mokI (ha (mi a2) (by simp)))
    clear hE ha h2
    refine y_iconst 0 Y dX6_copyPolynomial_0 rfl ?_
    refine y_istore_n 1 Y [some mt, some (mi a1), some (mi a2), some (mi 0)] dX6_copyPolynomial_1 rfl rfl ?_
    obtain ⟨n1, h⟩ := h
    exact Wk 2 _ [some mt, some (mi a1), some (mi a2), some (mi 0)] _ _ ⟨rfl, ⟨rfl, ⟨rfl, ⟨rfl, trivial⟩⟩⟩⟩ (hIc n1 _ _ _ _ ((⟨rfl, _, _, _, rfl, rfl, h⟩)))
  · intro n pc L st T hi hS hL P Y Wk hIc
    clear hE
    rcases hi with ⟨rfl, l1, l2, l3, rfl, rfl, hi⟩
    · have h := h2 n l1 l2 l3 T hS (hL 1 _ rfl) (hL 2 _ rfl) (hL 3 _ rfl) hi
      clear hL hi h2
      refine y_iload_n 2 Y dX6_copyPolynomial_2 rfl ?_
      refine y_bipush 3 Y dX6_copyPolynomial_3 rfl ?_
      refine y_icmp 5 28 Y dX6_copyPolynomial_5 rfl rfl (fun c => ?_) (fun c => ?_)
      · replace h := h.1 c
        exact y_ret 28 Y dX6_copyPolynomial_28 rfl h
      · replace h := h.2 c
        refine y_aload_n 8 Y dX6_copyPolynomial_8 rfl ?_
        refine y_iload_n 9 Y dX6_copyPolynomial_9 rfl ?_
        refine y_iload_n 10 Y dX6_copyPolynomial_10 rfl ?_
        refine y_calls 11 Y (as := [mi l1, mi l3]) [mt] dX6_copyPolynomial_11 rfl rfl rfl rfl rfl h (fun r S1 hq hI hr => ?_)
        obtain ⟨v2, rfl, h⟩ := Qi_ok hq
        replace h := h hI (mokI (hr _ rfl))
        clear hq hr
        refine y_iload_n 14 Y dX6_copyPolynomial_14 rfl ?_
        refine y_iload_n 15 Y dX6_copyPolynomial_15 rfl ?_
        refine y_calls 16 Y (as := [mi l2, mi l3]) [mi v2, mt] dX6_copyPolynomial_16 rfl rfl rfl rfl rfl h (fun r S3 hq hI hr => ?_)
        obtain ⟨v4, rfl, h⟩ := Qi_ok hq
        replace h := h hI (mokI (hr _ rfl))
        clear hq hr
        refine y_call 19 Y (as := [mi v2, mi v4]) [] dX6_copyPolynomial_19 rfl rfl rfl rfl rfl h (fun r S5 hq hI _ => ?_)
        obtain ⟨rfl, h⟩ := Qv_ok hq
        replace h := h hI
        clear hq
        obtain ⟨o6, h⟩ := h
        refine y_iinc 22 Y [some mt, some (mi l1), some (mi l2), some (mi (l3 + 1))] dX6_copyPolynomial_22 rfl rfl o6 ?_
        refine y_goto 25 2 Y dX6_copyPolynomial_25 rfl rfl ?_
        obtain ⟨n1, hn, h⟩ := h
        exact Wk 2 _ [some mt, some (mi l1), some (mi l2), some (mi (l3 + 1))] _ _ ⟨rfl, ⟨rfl, ⟨rfl, ⟨rfl, trivial⟩⟩⟩⟩ (hIc n1 _ _ _ _ hn ((⟨rfl, _, _, _, rfl, rfl, h⟩)))
set_option maxHeartbeats 4000000 in
theorem of_degreeOf {g : mG} {S : mS} {a1 : Int} {Qp : Option mV → mS → Prop} (I3 : Nat → Int → Int → mS → Prop)
    (hE : mI S → (-2147483648 ≤ a1 ∧ a1 ≤ 2147483647) → (∃ n1, I3 n1 a1 8 S))
    (h3 : ∀ (n : Nat) (l1 l2 : Int) (T : mS), mI T → (-2147483648 ≤ l1 ∧ l1 ≤ 2147483647) → (-2147483648 ≤ l2 ∧ l2 ≤ 2147483647) → I3 n l1 l2 T → ((l2 ≤ 0) → Qp (some (mi l2)) T) ∧ (¬ (l2 ≤ 0) → CX_coefficientAt g [mi l1, mi l2] T (Qi fun v2 S1 => mI S1 → (-2147483648 ≤ v2 ∧ v2 ≤ 2147483647) → CX_sign_2 g [mt, mi v2] S1 (Qi fun v4 S3 => mI S3 → (-2147483648 ≤ v4 ∧ v4 ≤ 2147483647) → ((v4 ≠ 0) → Qp (some (mi l2)) S3) ∧ (¬ (v4 ≠ 0) → (-2147483648 ≤ ((l2 + (-1)) : Int) ∧ (l2 + (-1)) ≤ 2147483647) ∧ (∃ n1, n1 < n ∧ I3 n1 l1 (l2 + (-1)) S3))))))
    : CX_degreeOf g [mt, mi a1] S Qp := by
  refine cm_y ⟨by decide, rfl⟩ (by simp [mcat]) (by simp) (fun n pc L st S => (pc = 3 ∧ ∃ (l1 : Int) (l2 : Int), L = [some mt, some (mi l1), some (mi l2)] ∧ st = [] ∧ I3 n l1 l2 S)) ?_ ?_
  · intro ha hS P Y Wk hIc
    have h := hE hS (mokI (ha (mi a1) (by simp)))
    clear hE ha h3
    refine y_bipush 0 Y dX6_degreeOf_0 rfl ?_
    refine y_istore_n 2 Y [some mt, some (mi a1), some (mi 8)] dX6_degreeOf_2 rfl rfl ?_
    obtain ⟨n1, h⟩ := h
    exact Wk 3 _ [some mt, some (mi a1), some (mi 8)] _ _ ⟨rfl, ⟨rfl, ⟨rfl, trivial⟩⟩⟩ (hIc n1 _ _ _ _ ((⟨rfl, _, _, rfl, rfl, h⟩)))
  · intro n pc L st T hi hS hL P Y Wk hIc
    clear hE
    rcases hi with ⟨rfl, l1, l2, rfl, rfl, hi⟩
    · have h := h3 n l1 l2 T hS (hL 1 _ rfl) (hL 2 _ rfl) hi
      clear hL hi h3
      refine y_iload_n 3 Y dX6_degreeOf_3 rfl ?_
      refine y_if 4 25 Y dX6_degreeOf_4 rfl rfl (fun c => ?_) (fun c => ?_)
      · replace h := h.1 c
        refine y_iload_n 25 Y dX6_degreeOf_25 rfl ?_
        exact y_iret 26 Y dX6_degreeOf_26 rfl h
      · replace h := h.2 c
        refine y_aload_n 7 Y dX6_degreeOf_7 rfl ?_
        refine y_iload_n 8 Y dX6_degreeOf_8 rfl ?_
        refine y_iload_n 9 Y dX6_degreeOf_9 rfl ?_
        refine y_calls 10 Y (as := [mi l1, mi l2]) [mt] dX6_degreeOf_10 rfl rfl rfl rfl rfl h (fun r S1 hq hI hr => ?_)
        obtain ⟨v2, rfl, h⟩ := Qi_ok hq
        replace h := h hI (mokI (hr _ rfl))
        clear hq hr
        refine y_call 13 Y (as := [mi v2]) [] dX6_degreeOf_13 rfl rfl rfl rfl rfl h (fun r S3 hq hI hr => ?_)
        obtain ⟨v4, rfl, h⟩ := Qi_ok hq
        replace h := h hI (mokI (hr _ rfl))
        clear hq hr
        refine y_if 16 25 Y dX6_degreeOf_16 rfl rfl (fun c => ?_) (fun c => ?_)
        · replace h := h.1 c
          refine y_iload_n 25 Y dX6_degreeOf_25 rfl ?_
          exact y_iret 26 Y dX6_degreeOf_26 rfl h
        · replace h := h.2 c
          obtain ⟨o5, h⟩ := h
          refine y_iinc 19 Y [some mt, some (mi l1), some (mi (l2 + (-1)))] dX6_degreeOf_19 rfl rfl o5 ?_
          refine y_goto 22 3 Y dX6_degreeOf_22 rfl rfl ?_
          obtain ⟨n1, hn, h⟩ := h
          exact Wk 3 _ [some mt, some (mi l1), some (mi (l2 + (-1)))] _ _ ⟨rfl, ⟨rfl, ⟨rfl, trivial⟩⟩⟩ (hIc n1 _ _ _ _ hn ((⟨rfl, _, _, rfl, rfl, h⟩)))
set_option maxHeartbeats 4000000 in
theorem of_digit {g : mG} {S : mS} {a1 a2 : Int} {Qp : Option mV → mS → Prop}
    (hE : mI S → (-2147483648 ≤ a1 ∧ a1 ≤ 2147483647) → (-2147483648 ≤ a2 ∧ a2 ≤ 2147483647) → CX_in g [mi a1, mi 48, mi 57] S (Qi fun v2 S1 => mI S1 → (-2147483648 ≤ v2 ∧ v2 ≤ 2147483647) → ((v2 = 0) → CX_in g [mi a1, mi 97, mi 102] S1 (Qi fun v4 S3 => mI S3 → (-2147483648 ≤ v4 ∧ v4 ≤ 2147483647) → ((v4 = 0) → ((a2 ≤ (-1)) → Qp (some (mi (-1))) S3) ∧ (¬ (a2 ≤ (-1)) → Qp (some (mi (-1))) S3)) ∧ (¬ (v4 = 0) → (-2147483648 ≤ ((a1 - 97) : Int) ∧ (a1 - 97) ≤ 2147483647) ∧ (-2147483648 ≤ (((a1 - 97) + 10) : Int) ∧ ((a1 - 97) + 10) ≤ 2147483647) ∧ ((a2 ≤ ((a1 - 97) + 10)) → Qp (some (mi (-1))) S3) ∧ (¬ (a2 ≤ ((a1 - 97) + 10)) → Qp (some (mi ((a1 - 97) + 10))) S3)))) ∧ (¬ (v2 = 0) → (-2147483648 ≤ ((a1 - 48) : Int) ∧ (a1 - 48) ≤ 2147483647) ∧ ((a2 ≤ (a1 - 48)) → Qp (some (mi (-1))) S1) ∧ (¬ (a2 ≤ (a1 - 48)) → Qp (some (mi (a1 - 48))) S1))))
    : CX_digit g [mi a1, mi a2] S Qp := by
  refine cm_y ⟨by decide, rfl⟩ (by simp [mcat]) (by simp) (fun _ _ _ _ _ => False) ?_ ?_
  · intro ha hS P Y Wk hIc
    have h := hE hS (mokI (ha (mi a1) (by simp))) (mokI (ha (mi a2) (by simp)))
    clear hE ha
    refine y_iload_n 0 Y dX6_digit_0 rfl ?_
    refine y_bipush 1 Y dX6_digit_1 rfl ?_
    refine y_bipush 3 Y dX6_digit_3 rfl ?_
    refine y_calls 5 Y (as := [mi a1, mi 48, mi 57]) [] dX6_digit_5 rfl rfl rfl rfl rfl h (fun r S1 hq hI hr => ?_)
    obtain ⟨v2, rfl, h⟩ := Qi_ok hq
    replace h := h hI (mokI (hr _ rfl))
    clear hq hr
    refine y_if 8 18 Y dX6_digit_8 rfl rfl (fun c => ?_) (fun c => ?_)
    · replace h := h.1 c
      refine y_iload_n 18 Y dX6_digit_18 rfl ?_
      refine y_bipush 19 Y dX6_digit_19 rfl ?_
      refine y_bipush 21 Y dX6_digit_21 rfl ?_
      refine y_calls 23 Y (as := [mi a1, mi 97, mi 102]) [] dX6_digit_23 rfl rfl rfl rfl rfl h (fun r S3 hq hI hr => ?_)
      obtain ⟨v4, rfl, h⟩ := Qi_ok hq
      replace h := h hI (mokI (hr _ rfl))
      clear hq hr
      refine y_if 26 39 Y dX6_digit_26 rfl rfl (fun c => ?_) (fun c => ?_)
      · replace h := h.1 c
        refine y_iconst 39 Y dX6_digit_39 rfl ?_
        refine y_istore_n 40 Y [some (mi a1), some (mi a2), some (mi (-1))] dX6_digit_40 rfl rfl ?_
        refine y_iload_n 41 Y dX6_digit_41 rfl ?_
        refine y_iload_n 42 Y dX6_digit_42 rfl ?_
        refine y_icmp 43 50 Y dX6_digit_43 rfl rfl (fun c => ?_) (fun c => ?_)
        · replace h := h.1 c
          refine y_iconst 50 Y dX6_digit_50 rfl ?_
          exact y_iret 51 Y dX6_digit_51 rfl h
        · replace h := h.2 c
          refine y_iload_n 46 Y dX6_digit_46 rfl ?_
          refine y_goto 47 51 Y dX6_digit_47 rfl rfl ?_
          exact y_iret 51 Y dX6_digit_51 rfl h
      · replace h := h.2 c
        refine y_iload_n 29 Y dX6_digit_29 rfl ?_
        refine y_bipush 30 Y dX6_digit_30 rfl ?_
        obtain ⟨o5, h⟩ := h
        refine y_isub 32 Y dX6_digit_32 o5 ?_
        refine y_bipush 33 Y dX6_digit_33 rfl ?_
        obtain ⟨o6, h⟩ := h
        refine y_iadd 35 Y dX6_digit_35 o6 ?_
        refine y_goto 36 40 Y dX6_digit_36 rfl rfl ?_
        refine y_istore_n 40 Y [some (mi a1), some (mi a2), some (mi ((a1 - 97) + 10))] dX6_digit_40 rfl rfl ?_
        refine y_iload_n 41 Y dX6_digit_41 rfl ?_
        refine y_iload_n 42 Y dX6_digit_42 rfl ?_
        refine y_icmp 43 50 Y dX6_digit_43 rfl rfl (fun c => ?_) (fun c => ?_)
        · replace h := h.1 c
          refine y_iconst 50 Y dX6_digit_50 rfl ?_
          exact y_iret 51 Y dX6_digit_51 rfl h
        · replace h := h.2 c
          refine y_iload_n 46 Y dX6_digit_46 rfl ?_
          refine y_goto 47 51 Y dX6_digit_47 rfl rfl ?_
          exact y_iret 51 Y dX6_digit_51 rfl h
    · replace h := h.2 c
      refine y_iload_n 11 Y dX6_digit_11 rfl ?_
      refine y_bipush 12 Y dX6_digit_12 rfl ?_
      obtain ⟨o7, h⟩ := h
      refine y_isub 14 Y dX6_digit_14 o7 ?_
      refine y_goto 15 40 Y dX6_digit_15 rfl rfl ?_
      refine y_istore_n 40 Y [some (mi a1), some (mi a2), some (mi (a1 - 48))] dX6_digit_40 rfl rfl ?_
      refine y_iload_n 41 Y dX6_digit_41 rfl ?_
      refine y_iload_n 42 Y dX6_digit_42 rfl ?_
      refine y_icmp 43 50 Y dX6_digit_43 rfl rfl (fun c => ?_) (fun c => ?_)
      · replace h := h.1 c
        refine y_iconst 50 Y dX6_digit_50 rfl ?_
        exact y_iret 51 Y dX6_digit_51 rfl h
      · replace h := h.2 c
        refine y_iload_n 46 Y dX6_digit_46 rfl ?_
        refine y_goto 47 51 Y dX6_digit_47 rfl rfl ?_
        exact y_iret 51 Y dX6_digit_51 rfl h
  · intro n pc L st T hi
    exact hi.elim
set_option maxHeartbeats 4000000 in
theorem of_grafted {g : mG} {S : mS} {a1 a2 a3 : Int} {Qp : Option mV → mS → Prop} (I6 : Nat → Int → Int → Int → Int → Int → mS → Prop)
    (hE : mI S → (-2147483648 ≤ a1 ∧ a1 ≤ 2147483647) → (-2147483648 ≤ a2 ∧ a2 ≤ 2147483647) → (-2147483648 ≤ a3 ∧ a3 ≤ 2147483647) → (∃ n1, I6 n1 a1 a2 a3 0 a1 S))
    (h6 : ∀ (n : Nat) (l1 l2 l3 l4 l5 : Int) (T : mS), mI T → (-2147483648 ≤ l1 ∧ l1 ≤ 2147483647) → (-2147483648 ≤ l2 ∧ l2 ≤ 2147483647) → (-2147483648 ≤ l3 ∧ l3 ≤ 2147483647) → (-2147483648 ≤ l4 ∧ l4 ≤ 2147483647) → (-2147483648 ≤ l5 ∧ l5 ≤ 2147483647) → I6 n l1 l2 l3 l4 l5 T → (0 ≤ l1) ∧ (l1 < 20300) ∧ (-2147483648 ≤ ((l1 + (T 8 l1)) : Int) ∧ (l1 + (T 8 l1)) ≤ 2147483647) ∧ (((l1 + (T 8 l1)) ≤ l5) → Qp (some (mi l4)) T) ∧ (¬ ((l1 + (T 8 l1)) ≤ l5) → (0 ≤ l5) ∧ (l5 < 20300) ∧ (((T 4 l5) ≠ 1) → (-2147483648 ≤ ((l4 + 1) : Int) ∧ (l4 + 1) ≤ 2147483647) ∧ (((l4 + 1) ≤ 80) → (-2147483648 ≤ ((13540 + l4) : Int) ∧ (13540 + l4) ≤ 2147483647) ∧ CX_copyNodes g [mt, mi (13540 + l4), mi l5, mi 1] T (Qv fun S8 => mI S8 → (-2147483648 ≤ ((l5 + 1) : Int) ∧ (l5 + 1) ≤ 2147483647) ∧ (∃ n1, n1 < n ∧ I6 n1 l1 l2 l3 (l4 + 1) (l5 + 1) S8))) ∧ (¬ ((l4 + 1) ≤ 80) → Qp (some (mi 81)) T)) ∧ (¬ ((T 4 l5) ≠ 1) → (((T 5 l5) ≠ l2) → (-2147483648 ≤ ((l4 + 1) : Int) ∧ (l4 + 1) ≤ 2147483647) ∧ (((l4 + 1) ≤ 80) → (-2147483648 ≤ ((13540 + l4) : Int) ∧ (13540 + l4) ≤ 2147483647) ∧ CX_copyNodes g [mt, mi (13540 + l4), mi l5, mi 1] T (Qv fun S12 => mI S12 → (-2147483648 ≤ ((l5 + 1) : Int) ∧ (l5 + 1) ≤ 2147483647) ∧ (∃ n1, n1 < n ∧ I6 n1 l1 l2 l3 (l4 + 1) (l5 + 1) S12))) ∧ (¬ ((l4 + 1) ≤ 80) → Qp (some (mi 81)) T)) ∧ (¬ ((T 5 l5) ≠ l2) → CX_isRange g [mt, mi l1, mi l5] T (Qi fun v15 S14 => mI S14 → (-2147483648 ≤ v15 ∧ v15 ≤ 2147483647) → ((v15 ≠ 0) → (-2147483648 ≤ ((l4 + 1) : Int) ∧ (l4 + 1) ≤ 2147483647) ∧ (((l4 + 1) ≤ 80) → (-2147483648 ≤ ((13540 + l4) : Int) ∧ (13540 + l4) ≤ 2147483647) ∧ CX_copyNodes g [mt, mi (13540 + l4), mi l5, mi 1] S14 (Qv fun S18 => mI S18 → (-2147483648 ≤ ((l5 + 1) : Int) ∧ (l5 + 1) ≤ 2147483647) ∧ (∃ n1, n1 < n ∧ I6 n1 l1 l2 l3 (l4 + 1) (l5 + 1) S18))) ∧ (¬ ((l4 + 1) ≤ 80) → Qp (some (mi 81)) S14)) ∧ (¬ (v15 ≠ 0) → (0 ≤ l3) ∧ (l3 < 20300) ∧ (-2147483648 ≤ ((l4 + (S14 8 l3)) : Int) ∧ (l4 + (S14 8 l3)) ≤ 2147483647) ∧ (((l4 + (S14 8 l3)) ≤ 80) → (-2147483648 ≤ ((13540 + l4) : Int) ∧ (13540 + l4) ≤ 2147483647) ∧ CX_copyNodes g [mt, mi (13540 + l4), mi l3, mi (S14 8 l3)] S14 (Qv fun S24 => mI S24 → (-2147483648 ≤ ((l5 + 1) : Int) ∧ (l5 + 1) ≤ 2147483647) ∧ (∃ n1, n1 < n ∧ I6 n1 l1 l2 l3 (l4 + (S14 8 l3)) (l5 + 1) S24))) ∧ (¬ ((l4 + (S14 8 l3)) ≤ 80) → Qp (some (mi 81)) S14)))))))
    : CX_grafted g [mt, mi a1, mi a2, mi a3] S Qp := by
  refine cm_y ⟨by decide, rfl⟩ (by simp [mcat]) (by simp) (fun n pc L st S => (pc = 6 ∧ ∃ (l1 : Int) (l2 : Int) (l3 : Int) (l4 : Int) (l5 : Int), L = [some mt, some (mi l1), some (mi l2), some (mi l3), some (mi l4), some (mi l5), none, none] ∧ st = [] ∧ I6 n l1 l2 l3 l4 l5 S)) ?_ ?_
  · intro ha hS P Y Wk hIc
    have h := hE hS (mokI (ha (mi a1) (by simp))) (mokI (ha (mi a2) (by simp))) (mokI (ha (mi a3) (by simp)))
    clear hE ha h6
    refine y_iconst 0 Y dX6_grafted_0 rfl ?_
    refine y_istore 1 Y [some mt, some (mi a1), some (mi a2), some (mi a3), some (mi 0), none, none, none] dX6_grafted_1 rfl rfl ?_
    refine y_iload_n 3 Y dX6_grafted_3 rfl ?_
    refine y_istore 4 Y [some mt, some (mi a1), some (mi a2), some (mi a3), some (mi 0), some (mi a1), none, none] dX6_grafted_4 rfl rfl ?_
    obtain ⟨n1, h⟩ := h
    exact Wk 6 _ [some mt, some (mi a1), some (mi a2), some (mi a3), some (mi 0), some (mi a1), none, none] _ _ ⟨rfl, ⟨rfl, ⟨rfl, ⟨rfl, ⟨rfl, ⟨rfl, trivial⟩⟩⟩⟩⟩⟩ (hIc n1 _ _ _ _ ((⟨rfl, _, _, _, _, _, rfl, rfl, h⟩)))
  · intro n pc L st T hi hS hL P Y Wk hIc
    clear hE
    rcases hi with ⟨rfl, l1, l2, l3, l4, l5, rfl, rfl, hi⟩
    · have h := h6 n l1 l2 l3 l4 l5 T hS (hL 1 _ rfl) (hL 2 _ rfl) (hL 3 _ rfl) (hL 4 _ rfl) (hL 5 _ rfl) hi
      clear hL hi h6
      refine y_iload 6 Y dX6_grafted_6 rfl ?_
      refine y_iload_n 8 Y dX6_grafted_8 rfl ?_
      refine y_aload_n 9 Y dX6_grafted_9 rfl ?_
      refine y_geta 10 Y 8 dX6_grafted_10 rfl rfl ?_
      refine y_iload_n 13 Y dX6_grafted_13 rfl ?_
      obtain ⟨o1, h⟩ := h
      obtain ⟨o2, h⟩ := h
      refine y_iald 14 Y dX6_grafted_14 rfl rfl o1 o2 (fun _ => ?_)
      obtain ⟨o3, h⟩ := h
      refine y_iadd 15 Y dX6_grafted_15 o3 ?_
      refine y_icmp 16 124 Y dX6_grafted_16 rfl rfl (fun c => ?_) (fun c => ?_)
      · replace h := h.1 c
        refine y_iload 124 Y dX6_grafted_124 rfl ?_
        exact y_iret 126 Y dX6_grafted_126 rfl h
      · replace h := h.2 c
        refine y_aload_n 19 Y dX6_grafted_19 rfl ?_
        refine y_geta 20 Y 4 dX6_grafted_20 rfl rfl ?_
        refine y_iload 23 Y dX6_grafted_23 rfl ?_
        obtain ⟨o4, h⟩ := h
        obtain ⟨o5, h⟩ := h
        refine y_iald 25 Y dX6_grafted_25 rfl rfl o4 o5 (fun _ => ?_)
        refine y_iconst 26 Y dX6_grafted_26 rfl ?_
        refine y_icmp 27 55 Y dX6_grafted_27 rfl rfl (fun c => ?_) (fun c => ?_)
        · replace h := h.1 c
          refine y_iconst 55 Y dX6_grafted_55 rfl ?_
          refine y_istore 56 Y [some mt, some (mi l1), some (mi l2), some (mi l3), some (mi l4), some (mi l5), some (mi 0), none] dX6_grafted_56 rfl rfl ?_
          refine y_iload 58 Y dX6_grafted_58 rfl ?_
          refine y_if 60 72 Y dX6_grafted_60 rfl rfl (fun _ => ?_) (fun c => absurd (show (0 : Int) = 0 by decide) c)
          refine y_iconst 72 Y dX6_grafted_72 rfl ?_
          refine y_istore 73 Y [some mt, some (mi l1), some (mi l2), some (mi l3), some (mi l4), some (mi l5), some (mi 0), some (mi 1)] dX6_grafted_73 rfl rfl ?_
          refine y_iload 75 Y dX6_grafted_75 rfl ?_
          refine y_iload 77 Y dX6_grafted_77 rfl ?_
          obtain ⟨o6, h⟩ := h
          refine y_iadd 79 Y dX6_grafted_79 o6 ?_
          refine y_bipush 80 Y dX6_grafted_80 rfl ?_
          refine y_icmp 82 88 Y dX6_grafted_82 rfl rfl (fun c => ?_) (fun c => ?_)
          · replace h := h.1 c
            refine y_aload_n 88 Y dX6_grafted_88 rfl ?_
            refine y_sipush 89 Y dX6_grafted_89 rfl ?_
            refine y_iload 92 Y dX6_grafted_92 rfl ?_
            obtain ⟨o7, h⟩ := h
            refine y_iadd 94 Y dX6_grafted_94 o7 ?_
            refine y_iload 95 Y dX6_grafted_95 rfl ?_
            refine y_if 97 104 Y dX6_grafted_97 rfl rfl (fun _ => ?_) (fun c => absurd (show (0 : Int) = 0 by decide) c)
            refine y_iload 104 Y dX6_grafted_104 rfl ?_
            refine y_iload 106 Y dX6_grafted_106 rfl ?_
            refine y_call 108 Y (as := [mi (13540 + l4), mi l5, mi 1]) [] dX6_grafted_108 rfl rfl rfl rfl rfl h (fun r S8 hq hI _ => ?_)
            obtain ⟨rfl, h⟩ := Qv_ok hq
            replace h := h hI
            clear hq
            refine y_iload 111 Y dX6_grafted_111 rfl ?_
            refine y_iload 113 Y dX6_grafted_113 rfl ?_
            refine y_iadd 115 Y dX6_grafted_115 o6 ?_
            refine y_istore 116 Y [some mt, some (mi l1), some (mi l2), some (mi l3), some (mi (l4 + 1)), some (mi l5), some (mi 0), some (mi 1)] dX6_grafted_116 rfl rfl ?_
            obtain ⟨o9, h⟩ := h
            refine y_iinc 118 Y [some mt, some (mi l1), some (mi l2), some (mi l3), some (mi (l4 + 1)), some (mi (l5 + 1)), some (mi 0), some (mi 1)] dX6_grafted_118 rfl rfl o9 ?_
            refine y_goto 121 6 Y dX6_grafted_121 rfl rfl ?_
            obtain ⟨n1, hn, h⟩ := h
            exact Wk 6 _ [some mt, some (mi l1), some (mi l2), some (mi l3), some (mi (l4 + 1)), some (mi (l5 + 1)), none, none] _ _ ⟨rfl, ⟨rfl, ⟨rfl, ⟨rfl, ⟨rfl, ⟨rfl, trivial⟩⟩⟩⟩⟩⟩ (hIc n1 _ _ _ _ hn ((⟨rfl, _, _, _, _, _, rfl, rfl, h⟩)))
          · replace h := h.2 c
            refine y_bipush 85 Y dX6_grafted_85 rfl ?_
            exact y_iret 87 Y dX6_grafted_87 rfl h
        · replace h := h.2 c
          refine y_aload_n 30 Y dX6_grafted_30 rfl ?_
          refine y_geta 31 Y 5 dX6_grafted_31 rfl rfl ?_
          refine y_iload 34 Y dX6_grafted_34 rfl ?_
          refine y_iald 36 Y dX6_grafted_36 rfl rfl o4 o5 (fun _ => ?_)
          refine y_iload_n 37 Y dX6_grafted_37 rfl ?_
          refine y_icmp 38 55 Y dX6_grafted_38 rfl rfl (fun c => ?_) (fun c => ?_)
          · replace h := h.1 c
            refine y_iconst 55 Y dX6_grafted_55 rfl ?_
            refine y_istore 56 Y [some mt, some (mi l1), some (mi l2), some (mi l3), some (mi l4), some (mi l5), some (mi 0), none] dX6_grafted_56 rfl rfl ?_
            refine y_iload 58 Y dX6_grafted_58 rfl ?_
            refine y_if 60 72 Y dX6_grafted_60 rfl rfl (fun _ => ?_) (fun c => absurd (show (0 : Int) = 0 by decide) c)
            refine y_iconst 72 Y dX6_grafted_72 rfl ?_
            refine y_istore 73 Y [some mt, some (mi l1), some (mi l2), some (mi l3), some (mi l4), some (mi l5), some (mi 0), some (mi 1)] dX6_grafted_73 rfl rfl ?_
            refine y_iload 75 Y dX6_grafted_75 rfl ?_
            refine y_iload 77 Y dX6_grafted_77 rfl ?_
            obtain ⟨o10, h⟩ := h
            refine y_iadd 79 Y dX6_grafted_79 o10 ?_
            refine y_bipush 80 Y dX6_grafted_80 rfl ?_
            refine y_icmp 82 88 Y dX6_grafted_82 rfl rfl (fun c => ?_) (fun c => ?_)
            · replace h := h.1 c
              refine y_aload_n 88 Y dX6_grafted_88 rfl ?_
              refine y_sipush 89 Y dX6_grafted_89 rfl ?_
              refine y_iload 92 Y dX6_grafted_92 rfl ?_
              obtain ⟨o11, h⟩ := h
              refine y_iadd 94 Y dX6_grafted_94 o11 ?_
              refine y_iload 95 Y dX6_grafted_95 rfl ?_
              refine y_if 97 104 Y dX6_grafted_97 rfl rfl (fun _ => ?_) (fun c => absurd (show (0 : Int) = 0 by decide) c)
              refine y_iload 104 Y dX6_grafted_104 rfl ?_
              refine y_iload 106 Y dX6_grafted_106 rfl ?_
              refine y_call 108 Y (as := [mi (13540 + l4), mi l5, mi 1]) [] dX6_grafted_108 rfl rfl rfl rfl rfl h (fun r S12 hq hI _ => ?_)
              obtain ⟨rfl, h⟩ := Qv_ok hq
              replace h := h hI
              clear hq
              refine y_iload 111 Y dX6_grafted_111 rfl ?_
              refine y_iload 113 Y dX6_grafted_113 rfl ?_
              refine y_iadd 115 Y dX6_grafted_115 o10 ?_
              refine y_istore 116 Y [some mt, some (mi l1), some (mi l2), some (mi l3), some (mi (l4 + 1)), some (mi l5), some (mi 0), some (mi 1)] dX6_grafted_116 rfl rfl ?_
              obtain ⟨o13, h⟩ := h
              refine y_iinc 118 Y [some mt, some (mi l1), some (mi l2), some (mi l3), some (mi (l4 + 1)), some (mi (l5 + 1)), some (mi 0), some (mi 1)] dX6_grafted_118 rfl rfl o13 ?_
              refine y_goto 121 6 Y dX6_grafted_121 rfl rfl ?_
              obtain ⟨n1, hn, h⟩ := h
              exact Wk 6 _ [some mt, some (mi l1), some (mi l2), some (mi l3), some (mi (l4 + 1)), some (mi (l5 + 1)), none, none] _ _ ⟨rfl, ⟨rfl, ⟨rfl, ⟨rfl, ⟨rfl, ⟨rfl, trivial⟩⟩⟩⟩⟩⟩ (hIc n1 _ _ _ _ hn ((⟨rfl, _, _, _, _, _, rfl, rfl, h⟩)))
            · replace h := h.2 c
              refine y_bipush 85 Y dX6_grafted_85 rfl ?_
              exact y_iret 87 Y dX6_grafted_87 rfl h
          · replace h := h.2 c
            refine y_aload_n 41 Y dX6_grafted_41 rfl ?_
            refine y_iload_n 42 Y dX6_grafted_42 rfl ?_
            refine y_iload 43 Y dX6_grafted_43 rfl ?_
            refine y_call 45 Y (as := [mi l1, mi l5]) [] dX6_grafted_45 rfl rfl rfl rfl rfl h (fun r S14 hq hI hr => ?_)
            obtain ⟨v15, rfl, h⟩ := Qi_ok hq
            replace h := h hI (mokI (hr _ rfl))
            clear hq hr
            refine y_if 48 55 Y dX6_grafted_48 rfl rfl (fun c => ?_) (fun c => ?_)
            · replace h := h.1 c
              refine y_iconst 55 Y dX6_grafted_55 rfl ?_
              refine y_istore 56 Y [some mt, some (mi l1), some (mi l2), some (mi l3), some (mi l4), some (mi l5), some (mi 0), none] dX6_grafted_56 rfl rfl ?_
              refine y_iload 58 Y dX6_grafted_58 rfl ?_
              refine y_if 60 72 Y dX6_grafted_60 rfl rfl (fun _ => ?_) (fun c => absurd (show (0 : Int) = 0 by decide) c)
              refine y_iconst 72 Y dX6_grafted_72 rfl ?_
              refine y_istore 73 Y [some mt, some (mi l1), some (mi l2), some (mi l3), some (mi l4), some (mi l5), some (mi 0), some (mi 1)] dX6_grafted_73 rfl rfl ?_
              refine y_iload 75 Y dX6_grafted_75 rfl ?_
              refine y_iload 77 Y dX6_grafted_77 rfl ?_
              obtain ⟨o16, h⟩ := h
              refine y_iadd 79 Y dX6_grafted_79 o16 ?_
              refine y_bipush 80 Y dX6_grafted_80 rfl ?_
              refine y_icmp 82 88 Y dX6_grafted_82 rfl rfl (fun c => ?_) (fun c => ?_)
              · replace h := h.1 c
                refine y_aload_n 88 Y dX6_grafted_88 rfl ?_
                refine y_sipush 89 Y dX6_grafted_89 rfl ?_
                refine y_iload 92 Y dX6_grafted_92 rfl ?_
                obtain ⟨o17, h⟩ := h
                refine y_iadd 94 Y dX6_grafted_94 o17 ?_
                refine y_iload 95 Y dX6_grafted_95 rfl ?_
                refine y_if 97 104 Y dX6_grafted_97 rfl rfl (fun _ => ?_) (fun c => absurd (show (0 : Int) = 0 by decide) c)
                refine y_iload 104 Y dX6_grafted_104 rfl ?_
                refine y_iload 106 Y dX6_grafted_106 rfl ?_
                refine y_call 108 Y (as := [mi (13540 + l4), mi l5, mi 1]) [] dX6_grafted_108 rfl rfl rfl rfl rfl h (fun r S18 hq hI _ => ?_)
                obtain ⟨rfl, h⟩ := Qv_ok hq
                replace h := h hI
                clear hq
                refine y_iload 111 Y dX6_grafted_111 rfl ?_
                refine y_iload 113 Y dX6_grafted_113 rfl ?_
                refine y_iadd 115 Y dX6_grafted_115 o16 ?_
                refine y_istore 116 Y [some mt, some (mi l1), some (mi l2), some (mi l3), some (mi (l4 + 1)), some (mi l5), some (mi 0), some (mi 1)] dX6_grafted_116 rfl rfl ?_
                obtain ⟨o19, h⟩ := h
                refine y_iinc 118 Y [some mt, some (mi l1), some (mi l2), some (mi l3), some (mi (l4 + 1)), some (mi (l5 + 1)), some (mi 0), some (mi 1)] dX6_grafted_118 rfl rfl o19 ?_
                refine y_goto 121 6 Y dX6_grafted_121 rfl rfl ?_
                obtain ⟨n1, hn, h⟩ := h
                exact Wk 6 _ [some mt, some (mi l1), some (mi l2), some (mi l3), some (mi (l4 + 1)), some (mi (l5 + 1)), none, none] _ _ ⟨rfl, ⟨rfl, ⟨rfl, ⟨rfl, ⟨rfl, ⟨rfl, trivial⟩⟩⟩⟩⟩⟩ (hIc n1 _ _ _ _ hn ((⟨rfl, _, _, _, _, _, rfl, rfl, h⟩)))
              · replace h := h.2 c
                refine y_bipush 85 Y dX6_grafted_85 rfl ?_
                exact y_iret 87 Y dX6_grafted_87 rfl h
            · replace h := h.2 c
              refine y_iconst 51 Y dX6_grafted_51 rfl ?_
              refine y_goto 52 56 Y dX6_grafted_52 rfl rfl ?_
              refine y_istore 56 Y [some mt, some (mi l1), some (mi l2), some (mi l3), some (mi l4), some (mi l5), some (mi 1), none] dX6_grafted_56 rfl rfl ?_
              refine y_iload 58 Y dX6_grafted_58 rfl ?_
              refine y_if 60 72 Y dX6_grafted_60 rfl rfl (fun c => absurd c (show ¬ ((1 : Int) = 0) by decide)) (fun _ => ?_)
              refine y_aload_n 63 Y dX6_grafted_63 rfl ?_
              refine y_geta 64 Y 8 dX6_grafted_64 rfl rfl ?_
              refine y_iload_n 67 Y dX6_grafted_67 rfl ?_
              obtain ⟨o20, h⟩ := h
              obtain ⟨o21, h⟩ := h
              refine y_iald 68 Y dX6_grafted_68 rfl rfl o20 o21 (fun _ => ?_)
              refine y_goto 69 73 Y dX6_grafted_69 rfl rfl ?_
              refine y_istore 73 Y [some mt, some (mi l1), some (mi l2), some (mi l3), some (mi l4), some (mi l5), some (mi 1), some (mi (S14 8 l3))] dX6_grafted_73 rfl rfl ?_
              refine y_iload 75 Y dX6_grafted_75 rfl ?_
              refine y_iload 77 Y dX6_grafted_77 rfl ?_
              obtain ⟨o22, h⟩ := h
              refine y_iadd 79 Y dX6_grafted_79 o22 ?_
              refine y_bipush 80 Y dX6_grafted_80 rfl ?_
              refine y_icmp 82 88 Y dX6_grafted_82 rfl rfl (fun c => ?_) (fun c => ?_)
              · replace h := h.1 c
                refine y_aload_n 88 Y dX6_grafted_88 rfl ?_
                refine y_sipush 89 Y dX6_grafted_89 rfl ?_
                refine y_iload 92 Y dX6_grafted_92 rfl ?_
                obtain ⟨o23, h⟩ := h
                refine y_iadd 94 Y dX6_grafted_94 o23 ?_
                refine y_iload 95 Y dX6_grafted_95 rfl ?_
                refine y_if 97 104 Y dX6_grafted_97 rfl rfl (fun c => absurd c (show ¬ ((1 : Int) = 0) by decide)) (fun _ => ?_)
                refine y_iload_n 100 Y dX6_grafted_100 rfl ?_
                refine y_goto 101 106 Y dX6_grafted_101 rfl rfl ?_
                refine y_iload 106 Y dX6_grafted_106 rfl ?_
                refine y_call 108 Y (as := [mi (13540 + l4), mi l3, mi (S14 8 l3)]) [] dX6_grafted_108 rfl rfl rfl rfl rfl h (fun r S24 hq hI _ => ?_)
                obtain ⟨rfl, h⟩ := Qv_ok hq
                replace h := h hI
                clear hq
                refine y_iload 111 Y dX6_grafted_111 rfl ?_
                refine y_iload 113 Y dX6_grafted_113 rfl ?_
                refine y_iadd 115 Y dX6_grafted_115 o22 ?_
                refine y_istore 116 Y [some mt, some (mi l1), some (mi l2), some (mi l3), some (mi (l4 + (S14 8 l3))), some (mi l5), some (mi 1), some (mi (S14 8 l3))] dX6_grafted_116 rfl rfl ?_
                obtain ⟨o25, h⟩ := h
                refine y_iinc 118 Y [some mt, some (mi l1), some (mi l2), some (mi l3), some (mi (l4 + (S14 8 l3))), some (mi (l5 + 1)), some (mi 1), some (mi (S14 8 l3))] dX6_grafted_118 rfl rfl o25 ?_
                refine y_goto 121 6 Y dX6_grafted_121 rfl rfl ?_
                obtain ⟨n1, hn, h⟩ := h
                exact Wk 6 _ [some mt, some (mi l1), some (mi l2), some (mi l3), some (mi (l4 + (S14 8 l3))), some (mi (l5 + 1)), none, none] _ _ ⟨rfl, ⟨rfl, ⟨rfl, ⟨rfl, ⟨rfl, ⟨rfl, trivial⟩⟩⟩⟩⟩⟩ (hIc n1 _ _ _ _ hn ((⟨rfl, _, _, _, _, _, rfl, rfl, h⟩)))
              · replace h := h.2 c
                refine y_bipush 85 Y dX6_grafted_85 rfl ?_
                exact y_iret 87 Y dX6_grafted_87 rfl h
set_option maxHeartbeats 4000000 in
theorem of_halve {g : mG} {S : mS} {a1 : Int} {Qp : Option mV → mS → Prop} (I2 : Nat → Int → Int → mS → Prop)
    (hE : mI S → (-2147483648 ≤ a1 ∧ a1 ≤ 2147483647) → (∃ n1, I2 n1 a1 0 S))
    (h2 : ∀ (n : Nat) (l1 l2 : Int) (T : mS), mI T → (-2147483648 ≤ l1 ∧ l1 ≤ 2147483647) → (-2147483648 ≤ l2 ∧ l2 ≤ 2147483647) → I2 n l1 l2 T → (0 ≤ l1) ∧ (l1 < 16) ∧ (((T 2 l1) ≤ l2) → CX_trim g [mt, mi l1] T (Qv fun S3 => mI S3 → Qp none S3)) ∧ (¬ ((T 2 l1) ≤ l2) → (-2147483648 ≤ ((l2 + 1) : Int) ∧ (l2 + 1) ≤ 2147483647) ∧ (((T 2 l1) ≤ (l2 + 1)) → (-2147483648 ≤ ((440 * l1) : Int) ∧ (440 * l1) ≤ 2147483647) ∧ (-2147483648 ≤ (((440 * l1) + l2) : Int) ∧ ((440 * l1) + l2) ≤ 2147483647) ∧ (0 ≤ ((440 * l1) + l2)) ∧ (((440 * l1) + l2) < 7040) ∧ (∃ n1, n1 < n ∧ I2 n1 l1 (l2 + 1) (mup T 1 ((440 * l1) + l2) (Int32.ofInt ((T 1 ((440 * l1) + l2)) / 2) ||| Int32.ofInt (0 * 32768)).toInt))) ∧ (¬ ((T 2 l1) ≤ (l2 + 1)) → (-2147483648 ≤ ((440 * l1) : Int) ∧ (440 * l1) ≤ 2147483647) ∧ (-2147483648 ≤ (((440 * l1) + l2) : Int) ∧ ((440 * l1) + l2) ≤ 2147483647) ∧ (-2147483648 ≤ ((((440 * l1) + l2) + 1) : Int) ∧ (((440 * l1) + l2) + 1) ≤ 2147483647) ∧ (0 ≤ (((440 * l1) + l2) + 1)) ∧ ((((440 * l1) + l2) + 1) < 7040) ∧ (0 ≤ ((440 * l1) + l2)) ∧ (((440 * l1) + l2) < 7040) ∧ (0 ≤ ((T 1 (((440 * l1) + l2) + 1)) % 2)) ∧ (-2147483648 ≤ ((((T 1 (((440 * l1) + l2) + 1)) % 2) * 32768) : Int) ∧ (((T 1 (((440 * l1) + l2) + 1)) % 2) * 32768) ≤ 2147483647) ∧ (∃ n1, n1 < n ∧ I2 n1 l1 (l2 + 1) (mup T 1 ((440 * l1) + l2) (Int32.ofInt ((T 1 ((440 * l1) + l2)) / 2) ||| Int32.ofInt (((T 1 (((440 * l1) + l2) + 1)) % 2) * 32768)).toInt)))))
    : CX_halve g [mt, mi a1] S Qp := by
  refine cm_y ⟨by decide, rfl⟩ (by simp [mcat]) (by simp) (fun n pc L st S => (pc = 2 ∧ ∃ (l1 : Int) (l2 : Int), L = [some mt, some (mi l1), some (mi l2), none] ∧ st = [] ∧ I2 n l1 l2 S)) ?_ ?_
  · intro ha hS P Y Wk hIc
    have h := hE hS (mokI (ha (mi a1) (by simp)))
    clear hE ha h2
    refine y_iconst 0 Y dX6_halve_0 rfl ?_
    refine y_istore_n 1 Y [some mt, some (mi a1), some (mi 0), none] dX6_halve_1 rfl rfl ?_
    obtain ⟨n1, h⟩ := h
    exact Wk 2 _ [some mt, some (mi a1), some (mi 0), none] _ _ ⟨rfl, ⟨rfl, ⟨rfl, trivial⟩⟩⟩ (hIc n1 _ _ _ _ ((⟨rfl, _, _, rfl, rfl, h⟩)))
  · intro n pc L st T hi hS hL P Y Wk hIc
    clear hE
    rcases hi with ⟨rfl, l1, l2, rfl, rfl, hi⟩
    · have h := h2 n l1 l2 T hS (hL 1 _ rfl) (hL 2 _ rfl) hi
      clear hL hi h2
      refine y_iload_n 2 Y dX6_halve_2 rfl ?_
      refine y_aload_n 3 Y dX6_halve_3 rfl ?_
      refine y_geta 4 Y 2 dX6_halve_4 rfl rfl ?_
      refine y_iload_n 7 Y dX6_halve_7 rfl ?_
      obtain ⟨o1, h⟩ := h
      obtain ⟨o2, h⟩ := h
      refine y_iald 8 Y dX6_halve_8 rfl rfl o1 o2 (fun _ => ?_)
      refine y_icmp 9 82 Y dX6_halve_9 rfl rfl (fun c => ?_) (fun c => ?_)
      · replace h := h.1 c
        refine y_aload_n 82 Y dX6_halve_82 rfl ?_
        refine y_iload_n 83 Y dX6_halve_83 rfl ?_
        refine y_call 84 Y (as := [mi l1]) [] dX6_halve_84 rfl rfl rfl rfl rfl h (fun r S3 hq hI _ => ?_)
        obtain ⟨rfl, h⟩ := Qv_ok hq
        replace h := h hI
        clear hq
        exact y_ret 87 Y dX6_halve_87 rfl h
      · replace h := h.2 c
        refine y_iload_n 12 Y dX6_halve_12 rfl ?_
        refine y_iconst 13 Y dX6_halve_13 rfl ?_
        obtain ⟨o4, h⟩ := h
        refine y_iadd 14 Y dX6_halve_14 o4 ?_
        refine y_aload_n 15 Y dX6_halve_15 rfl ?_
        refine y_geta 16 Y 2 dX6_halve_16 rfl rfl ?_
        refine y_iload_n 19 Y dX6_halve_19 rfl ?_
        refine y_iald 20 Y dX6_halve_20 rfl rfl o1 o2 (fun _ => ?_)
        refine y_icmp 21 43 Y dX6_halve_21 rfl rfl (fun c => ?_) (fun c => ?_)
        · replace h := h.1 c
          refine y_iconst 43 Y dX6_halve_43 rfl ?_
          refine y_istore_n 44 Y [some mt, some (mi l1), some (mi l2), some (mi 0)] dX6_halve_44 rfl rfl ?_
          refine y_aload_n 45 Y dX6_halve_45 rfl ?_
          refine y_geta 46 Y 1 dX6_halve_46 rfl rfl ?_
          refine y_sipush 49 Y dX6_halve_49 rfl ?_
          refine y_iload_n 52 Y dX6_halve_52 rfl ?_
          obtain ⟨o5, h⟩ := h
          refine y_imul 53 Y dX6_halve_53 o5 ?_
          refine y_iload_n 54 Y dX6_halve_54 rfl ?_
          obtain ⟨o6, h⟩ := h
          refine y_iadd 55 Y dX6_halve_55 o6 ?_
          refine y_aload_n 56 Y dX6_halve_56 rfl ?_
          refine y_geta 57 Y 1 dX6_halve_57 rfl rfl ?_
          refine y_sipush 60 Y dX6_halve_60 rfl ?_
          refine y_iload_n 63 Y dX6_halve_63 rfl ?_
          refine y_imul 64 Y dX6_halve_64 o5 ?_
          refine y_iload_n 65 Y dX6_halve_65 rfl ?_
          refine y_iadd 66 Y dX6_halve_66 o6 ?_
          obtain ⟨o7, h⟩ := h
          obtain ⟨o8, h⟩ := h
          refine y_iald 67 Y dX6_halve_67 rfl rfl o7 o8 (fun _ => ?_)
          refine y_iconst 68 Y dX6_halve_68 rfl ?_
          refine y_ishr 69 Y 2 rfl dX6_halve_69 (by decide) (by decide) ?_
          refine y_iload_n 70 Y dX6_halve_70 rfl ?_
          refine y_bipush 71 Y dX6_halve_71 rfl ?_
          refine y_ishl 73 Y 32768 rfl dX6_halve_73 (by decide) (by decide) (by decide) (by decide) ?_
          refine y_ior 74 Y dX6_halve_74 ?_
          refine y_iast 75 Y dX6_halve_75 rfl rfl o7 o8 ?_
          refine y_iinc 76 Y [some mt, some (mi l1), some (mi (l2 + 1)), some (mi 0)] dX6_halve_76 rfl rfl o4 ?_
          refine y_goto 79 2 Y dX6_halve_79 rfl rfl ?_
          obtain ⟨n1, hn, h⟩ := h
          exact Wk 2 _ [some mt, some (mi l1), some (mi (l2 + 1)), none] _ _ ⟨rfl, ⟨rfl, ⟨rfl, trivial⟩⟩⟩ (hIc n1 _ _ _ _ hn ((⟨rfl, _, _, rfl, rfl, h⟩)))
        · replace h := h.2 c
          refine y_aload_n 24 Y dX6_halve_24 rfl ?_
          refine y_geta 25 Y 1 dX6_halve_25 rfl rfl ?_
          refine y_sipush 28 Y dX6_halve_28 rfl ?_
          refine y_iload_n 31 Y dX6_halve_31 rfl ?_
          obtain ⟨o9, h⟩ := h
          refine y_imul 32 Y dX6_halve_32 o9 ?_
          refine y_iload_n 33 Y dX6_halve_33 rfl ?_
          obtain ⟨o10, h⟩ := h
          refine y_iadd 34 Y dX6_halve_34 o10 ?_
          refine y_iconst 35 Y dX6_halve_35 rfl ?_
          obtain ⟨o11, h⟩ := h
          refine y_iadd 36 Y dX6_halve_36 o11 ?_
          obtain ⟨o12, h⟩ := h
          obtain ⟨o13, h⟩ := h
          refine y_iald 37 Y dX6_halve_37 rfl rfl o12 o13 (fun _ => ?_)
          refine y_iconst 38 Y dX6_halve_38 rfl ?_
          refine y_iand 39 Y dX6_halve_39 mm_1 ?_
          refine y_goto 40 44 Y dX6_halve_40 rfl rfl ?_
          refine y_istore_n 44 Y [some mt, some (mi l1), some (mi l2), some (mi ((T 1 (((440 * l1) + l2) + 1)) % 2))] dX6_halve_44 rfl rfl ?_
          refine y_aload_n 45 Y dX6_halve_45 rfl ?_
          refine y_geta 46 Y 1 dX6_halve_46 rfl rfl ?_
          refine y_sipush 49 Y dX6_halve_49 rfl ?_
          refine y_iload_n 52 Y dX6_halve_52 rfl ?_
          refine y_imul 53 Y dX6_halve_53 o9 ?_
          refine y_iload_n 54 Y dX6_halve_54 rfl ?_
          refine y_iadd 55 Y dX6_halve_55 o10 ?_
          refine y_aload_n 56 Y dX6_halve_56 rfl ?_
          refine y_geta 57 Y 1 dX6_halve_57 rfl rfl ?_
          refine y_sipush 60 Y dX6_halve_60 rfl ?_
          refine y_iload_n 63 Y dX6_halve_63 rfl ?_
          refine y_imul 64 Y dX6_halve_64 o9 ?_
          refine y_iload_n 65 Y dX6_halve_65 rfl ?_
          refine y_iadd 66 Y dX6_halve_66 o10 ?_
          obtain ⟨o14, h⟩ := h
          obtain ⟨o15, h⟩ := h
          refine y_iald 67 Y dX6_halve_67 rfl rfl o14 o15 (fun _ => ?_)
          refine y_iconst 68 Y dX6_halve_68 rfl ?_
          refine y_ishr 69 Y 2 rfl dX6_halve_69 (by decide) (by decide) ?_
          refine y_iload_n 70 Y dX6_halve_70 rfl ?_
          refine y_bipush 71 Y dX6_halve_71 rfl ?_
          obtain ⟨o16, h⟩ := h
          obtain ⟨o17, h⟩ := h
          refine y_ishl 73 Y 32768 rfl dX6_halve_73 o16 (by decide) (by decide) o17 ?_
          refine y_ior 74 Y dX6_halve_74 ?_
          refine y_iast 75 Y dX6_halve_75 rfl rfl o14 o15 ?_
          refine y_iinc 76 Y [some mt, some (mi l1), some (mi (l2 + 1)), some (mi ((T 1 (((440 * l1) + l2) + 1)) % 2))] dX6_halve_76 rfl rfl o4 ?_
          refine y_goto 79 2 Y dX6_halve_79 rfl rfl ?_
          obtain ⟨n1, hn, h⟩ := h
          exact Wk 2 _ [some mt, some (mi l1), some (mi (l2 + 1)), none] _ _ ⟨rfl, ⟨rfl, ⟨rfl, trivial⟩⟩⟩ (hIc n1 _ _ _ _ hn ((⟨rfl, _, _, rfl, rfl, h⟩)))
set_option maxHeartbeats 4000000 in
theorem of_isMeaning {g : mG} {S : mS} {a1 a2 : Int} {Qp : Option mV → mS → Prop}
    (hE : mI S → (-2147483648 ≤ a1 ∧ a1 ≤ 2147483647) → (-2147483648 ≤ a2 ∧ a2 ≤ 2147483647) → CX_in g [mi a2, mi 100, mi 125] S (Qi fun v2 S1 => mI S1 → (-2147483648 ≤ v2 ∧ v2 ≤ 2147483647) → ((v2 = 0) → ((a1 ≠ 2) → CX_in g [mi a2, mi 11, mi 13] S1 (Qi fun v4 S3 => mI S3 → (-2147483648 ≤ v4 ∧ v4 ≤ 2147483647) → ((v4 = 0) → Qp (some (mi 0)) S3) ∧ (¬ (v4 = 0) → Qp (some (mi 1)) S3))) ∧ (¬ (a1 ≠ 2) → CX_in g [mi a2, mi 0, mi 10] S1 (Qi fun v6 S5 => mI S5 → (-2147483648 ≤ v6 ∧ v6 ≤ 2147483647) → ((v6 = 0) → Qp (some (mi 0)) S5) ∧ (¬ (v6 = 0) → Qp (some (mi 1)) S5)))) ∧ (¬ (v2 = 0) → ((a2 = 108) → ((a1 ≠ 2) → CX_in g [mi a2, mi 11, mi 13] S1 (Qi fun v8 S7 => mI S7 → (-2147483648 ≤ v8 ∧ v8 ≤ 2147483647) → ((v8 = 0) → Qp (some (mi 0)) S7) ∧ (¬ (v8 = 0) → Qp (some (mi 1)) S7))) ∧ (¬ (a1 ≠ 2) → CX_in g [mi a2, mi 0, mi 10] S1 (Qi fun v10 S9 => mI S9 → (-2147483648 ≤ v10 ∧ v10 ≤ 2147483647) → ((v10 = 0) → Qp (some (mi 0)) S9) ∧ (¬ (v10 = 0) → Qp (some (mi 1)) S9)))) ∧ (¬ (a2 = 108) → ((a2 = 118) → ((a1 ≠ 2) → CX_in g [mi a2, mi 11, mi 13] S1 (Qi fun v12 S11 => mI S11 → (-2147483648 ≤ v12 ∧ v12 ≤ 2147483647) → ((v12 = 0) → Qp (some (mi 0)) S11) ∧ (¬ (v12 = 0) → Qp (some (mi 1)) S11))) ∧ (¬ (a1 ≠ 2) → CX_in g [mi a2, mi 0, mi 10] S1 (Qi fun v14 S13 => mI S13 → (-2147483648 ≤ v14 ∧ v14 ≤ 2147483647) → ((v14 = 0) → Qp (some (mi 0)) S13) ∧ (¬ (v14 = 0) → Qp (some (mi 1)) S13)))) ∧ (¬ (a2 = 118) → Qp (some (mi 1)) S1)))))
    : CX_isMeaning g [mi a1, mi a2] S Qp := by
  refine cm_y ⟨by decide, rfl⟩ (by simp [mcat]) (by simp) (fun _ _ _ _ _ => False) ?_ ?_
  · intro ha hS P Y Wk hIc
    have h := hE hS (mokI (ha (mi a1) (by simp))) (mokI (ha (mi a2) (by simp)))
    clear hE ha
    refine y_iload_n 0 Y dX6_isMeaning_0 rfl ?_
    refine y_bipush 1 Y dX6_isMeaning_1 rfl ?_
    refine y_bipush 3 Y dX6_isMeaning_3 rfl ?_
    refine y_calls 5 Y (as := [mi a2, mi 100, mi 125]) [] dX6_isMeaning_5 rfl rfl rfl rfl rfl h (fun r S1 hq hI hr => ?_)
    obtain ⟨v2, rfl, h⟩ := Qi_ok hq
    replace h := h hI (mokI (hr _ rfl))
    clear hq hr
    refine y_if 8 27 Y dX6_isMeaning_8 rfl rfl (fun c => ?_) (fun c => ?_)
    · replace h := h.1 c
      refine y_iconst 27 Y dX6_isMeaning_27 rfl ?_
      refine y_istore_n 28 Y [some (mi a1), some (mi a2), some (mi 0)] dX6_isMeaning_28 rfl rfl ?_
      refine y_iload_n 29 Y dX6_isMeaning_29 rfl ?_
      refine y_if 30 62 Y dX6_isMeaning_30 rfl rfl (fun c => absurd c (show ¬ ((0 : Int) ≠ 0) by decide)) (fun _ => ?_)
      refine y_iload_n 33 Y dX6_isMeaning_33 rfl ?_
      refine y_iconst 34 Y dX6_isMeaning_34 rfl ?_
      refine y_icmp 35 51 Y dX6_isMeaning_35 rfl rfl (fun c => ?_) (fun c => ?_)
      · replace h := h.1 c
        refine y_iload_n 51 Y dX6_isMeaning_51 rfl ?_
        refine y_bipush 52 Y dX6_isMeaning_52 rfl ?_
        refine y_bipush 54 Y dX6_isMeaning_54 rfl ?_
        refine y_calls 56 Y (as := [mi a2, mi 11, mi 13]) [] dX6_isMeaning_56 rfl rfl rfl rfl rfl h (fun r S3 hq hI hr => ?_)
        obtain ⟨v4, rfl, h⟩ := Qi_ok hq
        replace h := h hI (mokI (hr _ rfl))
        clear hq hr
        refine y_if 59 66 Y dX6_isMeaning_59 rfl rfl (fun c => ?_) (fun c => ?_)
        · replace h := h.1 c
          refine y_iconst 66 Y dX6_isMeaning_66 rfl ?_
          exact y_zret 67 Y dX6_isMeaning_67 rfl (by decide) h
        · replace h := h.2 c
          refine y_iconst 62 Y dX6_isMeaning_62 rfl ?_
          refine y_goto 63 67 Y dX6_isMeaning_63 rfl rfl ?_
          exact y_zret 67 Y dX6_isMeaning_67 rfl (by decide) h
      · replace h := h.2 c
        refine y_iload_n 38 Y dX6_isMeaning_38 rfl ?_
        refine y_iconst 39 Y dX6_isMeaning_39 rfl ?_
        refine y_bipush 40 Y dX6_isMeaning_40 rfl ?_
        refine y_calls 42 Y (as := [mi a2, mi 0, mi 10]) [] dX6_isMeaning_42 rfl rfl rfl rfl rfl h (fun r S5 hq hI hr => ?_)
        obtain ⟨v6, rfl, h⟩ := Qi_ok hq
        replace h := h hI (mokI (hr _ rfl))
        clear hq hr
        refine y_if 45 66 Y dX6_isMeaning_45 rfl rfl (fun c => ?_) (fun c => ?_)
        · replace h := h.1 c
          refine y_iconst 66 Y dX6_isMeaning_66 rfl ?_
          exact y_zret 67 Y dX6_isMeaning_67 rfl (by decide) h
        · replace h := h.2 c
          refine y_goto 48 62 Y dX6_isMeaning_48 rfl rfl ?_
          refine y_iconst 62 Y dX6_isMeaning_62 rfl ?_
          refine y_goto 63 67 Y dX6_isMeaning_63 rfl rfl ?_
          exact y_zret 67 Y dX6_isMeaning_67 rfl (by decide) h
    · replace h := h.2 c
      refine y_iload_n 11 Y dX6_isMeaning_11 rfl ?_
      refine y_bipush 12 Y dX6_isMeaning_12 rfl ?_
      refine y_icmp 14 27 Y dX6_isMeaning_14 rfl rfl (fun c => ?_) (fun c => ?_)
      · replace h := h.1 c
        refine y_iconst 27 Y dX6_isMeaning_27 rfl ?_
        refine y_istore_n 28 Y [some (mi a1), some (mi a2), some (mi 0)] dX6_isMeaning_28 rfl rfl ?_
        refine y_iload_n 29 Y dX6_isMeaning_29 rfl ?_
        refine y_if 30 62 Y dX6_isMeaning_30 rfl rfl (fun c => absurd c (show ¬ ((0 : Int) ≠ 0) by decide)) (fun _ => ?_)
        refine y_iload_n 33 Y dX6_isMeaning_33 rfl ?_
        refine y_iconst 34 Y dX6_isMeaning_34 rfl ?_
        refine y_icmp 35 51 Y dX6_isMeaning_35 rfl rfl (fun c => ?_) (fun c => ?_)
        · replace h := h.1 c
          refine y_iload_n 51 Y dX6_isMeaning_51 rfl ?_
          refine y_bipush 52 Y dX6_isMeaning_52 rfl ?_
          refine y_bipush 54 Y dX6_isMeaning_54 rfl ?_
          refine y_calls 56 Y (as := [mi a2, mi 11, mi 13]) [] dX6_isMeaning_56 rfl rfl rfl rfl rfl h (fun r S7 hq hI hr => ?_)
          obtain ⟨v8, rfl, h⟩ := Qi_ok hq
          replace h := h hI (mokI (hr _ rfl))
          clear hq hr
          refine y_if 59 66 Y dX6_isMeaning_59 rfl rfl (fun c => ?_) (fun c => ?_)
          · replace h := h.1 c
            refine y_iconst 66 Y dX6_isMeaning_66 rfl ?_
            exact y_zret 67 Y dX6_isMeaning_67 rfl (by decide) h
          · replace h := h.2 c
            refine y_iconst 62 Y dX6_isMeaning_62 rfl ?_
            refine y_goto 63 67 Y dX6_isMeaning_63 rfl rfl ?_
            exact y_zret 67 Y dX6_isMeaning_67 rfl (by decide) h
        · replace h := h.2 c
          refine y_iload_n 38 Y dX6_isMeaning_38 rfl ?_
          refine y_iconst 39 Y dX6_isMeaning_39 rfl ?_
          refine y_bipush 40 Y dX6_isMeaning_40 rfl ?_
          refine y_calls 42 Y (as := [mi a2, mi 0, mi 10]) [] dX6_isMeaning_42 rfl rfl rfl rfl rfl h (fun r S9 hq hI hr => ?_)
          obtain ⟨v10, rfl, h⟩ := Qi_ok hq
          replace h := h hI (mokI (hr _ rfl))
          clear hq hr
          refine y_if 45 66 Y dX6_isMeaning_45 rfl rfl (fun c => ?_) (fun c => ?_)
          · replace h := h.1 c
            refine y_iconst 66 Y dX6_isMeaning_66 rfl ?_
            exact y_zret 67 Y dX6_isMeaning_67 rfl (by decide) h
          · replace h := h.2 c
            refine y_goto 48 62 Y dX6_isMeaning_48 rfl rfl ?_
            refine y_iconst 62 Y dX6_isMeaning_62 rfl ?_
            refine y_goto 63 67 Y dX6_isMeaning_63 rfl rfl ?_
            exact y_zret 67 Y dX6_isMeaning_67 rfl (by decide) h
      · replace h := h.2 c
        refine y_iload_n 17 Y dX6_isMeaning_17 rfl ?_
        refine y_bipush 18 Y dX6_isMeaning_18 rfl ?_
        refine y_icmp 20 27 Y dX6_isMeaning_20 rfl rfl (fun c => ?_) (fun c => ?_)
        · replace h := h.1 c
          refine y_iconst 27 Y dX6_isMeaning_27 rfl ?_
          refine y_istore_n 28 Y [some (mi a1), some (mi a2), some (mi 0)] dX6_isMeaning_28 rfl rfl ?_
          refine y_iload_n 29 Y dX6_isMeaning_29 rfl ?_
          refine y_if 30 62 Y dX6_isMeaning_30 rfl rfl (fun c => absurd c (show ¬ ((0 : Int) ≠ 0) by decide)) (fun _ => ?_)
          refine y_iload_n 33 Y dX6_isMeaning_33 rfl ?_
          refine y_iconst 34 Y dX6_isMeaning_34 rfl ?_
          refine y_icmp 35 51 Y dX6_isMeaning_35 rfl rfl (fun c => ?_) (fun c => ?_)
          · replace h := h.1 c
            refine y_iload_n 51 Y dX6_isMeaning_51 rfl ?_
            refine y_bipush 52 Y dX6_isMeaning_52 rfl ?_
            refine y_bipush 54 Y dX6_isMeaning_54 rfl ?_
            refine y_calls 56 Y (as := [mi a2, mi 11, mi 13]) [] dX6_isMeaning_56 rfl rfl rfl rfl rfl h (fun r S11 hq hI hr => ?_)
            obtain ⟨v12, rfl, h⟩ := Qi_ok hq
            replace h := h hI (mokI (hr _ rfl))
            clear hq hr
            refine y_if 59 66 Y dX6_isMeaning_59 rfl rfl (fun c => ?_) (fun c => ?_)
            · replace h := h.1 c
              refine y_iconst 66 Y dX6_isMeaning_66 rfl ?_
              exact y_zret 67 Y dX6_isMeaning_67 rfl (by decide) h
            · replace h := h.2 c
              refine y_iconst 62 Y dX6_isMeaning_62 rfl ?_
              refine y_goto 63 67 Y dX6_isMeaning_63 rfl rfl ?_
              exact y_zret 67 Y dX6_isMeaning_67 rfl (by decide) h
          · replace h := h.2 c
            refine y_iload_n 38 Y dX6_isMeaning_38 rfl ?_
            refine y_iconst 39 Y dX6_isMeaning_39 rfl ?_
            refine y_bipush 40 Y dX6_isMeaning_40 rfl ?_
            refine y_calls 42 Y (as := [mi a2, mi 0, mi 10]) [] dX6_isMeaning_42 rfl rfl rfl rfl rfl h (fun r S13 hq hI hr => ?_)
            obtain ⟨v14, rfl, h⟩ := Qi_ok hq
            replace h := h hI (mokI (hr _ rfl))
            clear hq hr
            refine y_if 45 66 Y dX6_isMeaning_45 rfl rfl (fun c => ?_) (fun c => ?_)
            · replace h := h.1 c
              refine y_iconst 66 Y dX6_isMeaning_66 rfl ?_
              exact y_zret 67 Y dX6_isMeaning_67 rfl (by decide) h
            · replace h := h.2 c
              refine y_goto 48 62 Y dX6_isMeaning_48 rfl rfl ?_
              refine y_iconst 62 Y dX6_isMeaning_62 rfl ?_
              refine y_goto 63 67 Y dX6_isMeaning_63 rfl rfl ?_
              exact y_zret 67 Y dX6_isMeaning_67 rfl (by decide) h
        · replace h := h.2 c
          refine y_iconst 23 Y dX6_isMeaning_23 rfl ?_
          refine y_goto 24 28 Y dX6_isMeaning_24 rfl rfl ?_
          refine y_istore_n 28 Y [some (mi a1), some (mi a2), some (mi 1)] dX6_isMeaning_28 rfl rfl ?_
          refine y_iload_n 29 Y dX6_isMeaning_29 rfl ?_
          refine y_if 30 62 Y dX6_isMeaning_30 rfl rfl (fun _ => ?_) (fun c => absurd (show (1 : Int) ≠ 0 by decide) c)
          refine y_iconst 62 Y dX6_isMeaning_62 rfl ?_
          refine y_goto 63 67 Y dX6_isMeaning_63 rfl rfl ?_
          exact y_zret 67 Y dX6_isMeaning_67 rfl (by decide) h
  · intro n pc L st T hi
    exact hi.elim
set_option maxHeartbeats 4000000 in
theorem of_isName {g : mG} {S : mS} {a1 : Int} {Qp : Option mV → mS → Prop}
    (hE : mI S → (-2147483648 ≤ a1 ∧ a1 ≤ 2147483647) → CX_in g [mi a1, mi 97, mi 122] S (Qi fun v2 S1 => mI S1 → (-2147483648 ≤ v2 ∧ v2 ≤ 2147483647) → (v2 = 0 ∨ v2 = 1) ∧ Qp (some (mi v2)) S1))
    : CX_isName g [mi a1] S Qp := by
  refine cm_y ⟨by decide, rfl⟩ (by simp [mcat]) (by simp) (fun _ _ _ _ _ => False) ?_ ?_
  · intro ha hS P Y Wk hIc
    have h := hE hS (mokI (ha (mi a1) (by simp)))
    clear hE ha
    refine y_iload_n 0 Y dX6_isName_0 rfl ?_
    refine y_bipush 1 Y dX6_isName_1 rfl ?_
    refine y_bipush 3 Y dX6_isName_3 rfl ?_
    refine y_calls 5 Y (as := [mi a1, mi 97, mi 122]) [] dX6_isName_5 rfl rfl rfl rfl rfl h (fun r S1 hq hI hr => ?_)
    obtain ⟨v2, rfl, h⟩ := Qi_ok hq
    replace h := h hI (mokI (hr _ rfl))
    clear hq hr
    exact y_zret 8 Y dX6_isName_8 rfl h.1 h.2
  · intro n pc L st T hi
    exact hi.elim
set_option maxHeartbeats 4000000 in
theorem of_isTree {g : mG} {S : mS} {a1 : Int} {Qp : Option mV → mS → Prop}
    (hE : mI S → (-2147483648 ≤ a1 ∧ a1 ≤ 2147483647) → (-2147483648 ≤ (((S 10 0) - 1) : Int) ∧ ((S 10 0) - 1) ≤ 2147483647) ∧ CX_in g [mi a1, mi 0, mi ((S 10 0) - 1)] S (Qi fun v3 S2 => mI S2 → (-2147483648 ≤ v3 ∧ v3 ≤ 2147483647) → (v3 = 0 ∨ v3 = 1) ∧ Qp (some (mi v3)) S2))
    : CX_isTree g [mt, mi a1] S Qp := by
  refine cm_y ⟨by decide, rfl⟩ (by simp [mcat]) (by simp) (fun _ _ _ _ _ => False) ?_ ?_
  · intro ha hS P Y Wk hIc
    have h := hE hS (mokI (ha (mi a1) (by simp)))
    clear hE ha
    refine y_iload_n 0 Y dX6_isTree_0 rfl ?_
    refine y_iconst 1 Y dX6_isTree_1 rfl ?_
    refine y_aload_n 2 Y dX6_isTree_2 rfl ?_
    refine y_getf 3 Y 10 dX6_isTree_3 rfl rfl (fun _ => ?_)
    refine y_iconst 6 Y dX6_isTree_6 rfl ?_
    obtain ⟨o1, h⟩ := h
    refine y_isub 7 Y dX6_isTree_7 o1 ?_
    refine y_calls 8 Y (as := [mi a1, mi 0, mi ((S 10 0) - 1)]) [] dX6_isTree_8 rfl rfl rfl rfl rfl h (fun r S2 hq hI hr => ?_)
    obtain ⟨v3, rfl, h⟩ := Qi_ok hq
    replace h := h hI (mokI (hr _ rfl))
    clear hq hr
    exact y_zret 11 Y dX6_isTree_11 rfl h.1 h.2
  · intro n pc L st T hi
    exact hi.elim
set_option maxHeartbeats 4000000 in
theorem of_lay {g : mG} {S : mS} {a1 : Int} {Qp : Option mV → mS → Prop} (I19 : Nat → Int → Int → mS → Prop) (I79 : Nat → Int → Int → Int → Int → Int → mS → Prop)
    (hE : mI S → (-2147483648 ≤ a1 ∧ a1 ≤ 2147483647) → (-2147483648 ≤ (((S 33 0) - 1) : Int) ∧ ((S 33 0) - 1) ≤ 2147483647) ∧ (0 ≤ ((S 33 0) - 1)) ∧ (((S 33 0) - 1) < 100) ∧ (∃ n1, I19 n1 a1 ((S 33 0) - 1) (mup S 32 ((S 33 0) - 1) 0)))
    (h19 : ∀ (n : Nat) (l1 l2 : Int) (T : mS), mI T → (-2147483648 ≤ l1 ∧ l1 ≤ 2147483647) → (-2147483648 ≤ l2 ∧ l2 ≤ 2147483647) → I19 n l1 l2 T → ((l2 < 0) → CX_span g [mt, mi l1, mi (T 33 0)] T (Qv fun S1 => mI S1 → Qp (some (mi (S1 33 0))) S1)) ∧ (¬ (l2 < 0) → (0 ≤ l2) ∧ (l2 < 100) ∧ (-2147483648 ≤ ((l1 + (T 32 l2)) : Int) ∧ (l1 + (T 32 l2)) ≤ 2147483647) ∧ CX_node g [mt, mi (l1 + (T 32 l2)), mi (T 27 l2), mi (T 28 l2), mi (T 29 l2), mi (T 30 l2)] T (Qv fun S5 => mI S5 → (-2147483648 ≤ ((l2 - 1) : Int) ∧ (l2 - 1) ≤ 2147483647) ∧ (-2147483648 ≤ (((T 32 l2) + (S5 31 l2)) : Int) ∧ ((T 32 l2) + (S5 31 l2)) ≤ 2147483647) ∧ (∃ n1, n1 < n ∧ I79 n1 l1 l2 (l2 - 1) ((T 32 l2) + (S5 31 l2)) 0 S5))))
    (h79 : ∀ (n : Nat) (l1 l2 l4 l5 l6 : Int) (T : mS), mI T → (-2147483648 ≤ l1 ∧ l1 ≤ 2147483647) → (-2147483648 ≤ l2 ∧ l2 ≤ 2147483647) → (-2147483648 ≤ l4 ∧ l4 ≤ 2147483647) → (-2147483648 ≤ l5 ∧ l5 ≤ 2147483647) → (-2147483648 ≤ l6 ∧ l6 ≤ 2147483647) → I79 n l1 l2 l4 l5 l6 T → (0 ≤ l2) ∧ (l2 < 100) ∧ (((T 30 l2) ≤ l6) → (-2147483648 ≤ ((l2 + (-1)) : Int) ∧ (l2 + (-1)) ≤ 2147483647) ∧ (∃ n1, n1 < n ∧ I19 n1 l1 (l2 + (-1)) T)) ∧ (¬ ((T 30 l2) ≤ l6) → (0 ≤ l4) ∧ (l4 < 100) ∧ (-2147483648 ≤ ((l5 - (T 31 l4)) : Int) ∧ (l5 - (T 31 l4)) ≤ 2147483647) ∧ (-2147483648 ≤ ((l4 - (T 31 l4)) : Int) ∧ (l4 - (T 31 l4)) ≤ 2147483647) ∧ (-2147483648 ≤ ((l6 + 1) : Int) ∧ (l6 + 1) ≤ 2147483647) ∧ (∃ n1, n1 < n ∧ I79 n1 l1 l2 (l4 - (T 31 l4)) (l5 - (T 31 l4)) (l6 + 1) (mup T 32 l4 (l5 - (T 31 l4))))))
    : CX_lay g [mt, mi a1] S Qp := by
  refine cm_y ⟨by decide, rfl⟩ (by simp [mcat]) (by simp) (fun n pc L st S => (pc = 19 ∧ ∃ (l1 : Int) (l2 : Int), L = [some mt, some (mi l1), some (mi l2), none, none, none, none] ∧ st = [] ∧ I19 n l1 l2 S) ∨ (pc = 79 ∧ ∃ (l1 : Int) (l2 : Int) (l4 : Int) (l5 : Int) (l6 : Int), L = [some mt, some (mi l1), some (mi l2), none, some (mi l4), some (mi l5), some (mi l6)] ∧ st = [] ∧ I79 n l1 l2 l4 l5 l6 S)) ?_ ?_
  · intro ha hS P Y Wk hIc
    have h := hE hS (mokI (ha (mi a1) (by simp)))
    clear hE ha h19 h79
    refine y_aload_n 0 Y dX6_lay_0 rfl ?_
    refine y_geta 1 Y 32 dX6_lay_1 rfl rfl ?_
    refine y_aload_n 4 Y dX6_lay_4 rfl ?_
    refine y_getf 5 Y 33 dX6_lay_5 rfl rfl (fun _ => ?_)
    refine y_iconst 8 Y dX6_lay_8 rfl ?_
    obtain ⟨o1, h⟩ := h
    refine y_isub 9 Y dX6_lay_9 o1 ?_
    refine y_iconst 10 Y dX6_lay_10 rfl ?_
    obtain ⟨o2, h⟩ := h
    obtain ⟨o3, h⟩ := h
    refine y_iast 11 Y dX6_lay_11 rfl rfl o2 o3 ?_
    refine y_aload_n 12 Y dX6_lay_12 rfl ?_
    refine y_getf 13 Y 33 dX6_lay_13 rfl rfl (fun _ => ?_)
    refine y_iconst 16 Y dX6_lay_16 rfl ?_
    refine y_isub 17 Y dX6_lay_17 o1 ?_
    refine y_istore_n 18 Y [some mt, some (mi a1), some (mi ((S 33 0) - 1)), none, none, none, none] dX6_lay_18 rfl rfl ?_
    obtain ⟨n1, h⟩ := h
    exact Wk 19 _ [some mt, some (mi a1), some (mi ((S 33 0) - 1)), none, none, none, none] _ _ ⟨rfl, ⟨rfl, ⟨rfl, trivial⟩⟩⟩ (hIc n1 _ _ _ _ (Or.inl (⟨rfl, _, _, rfl, rfl, h⟩)))
  · intro n pc L st T hi hS hL P Y Wk hIc
    clear hE
    rcases hi with ⟨rfl, l1, l2, rfl, rfl, hi⟩ | ⟨rfl, l1, l2, l4, l5, l6, rfl, rfl, hi⟩
    · have h := h19 n l1 l2 T hS (hL 1 _ rfl) (hL 2 _ rfl) hi
      clear hL hi h19 h79
      refine y_iload_n 19 Y dX6_lay_19 rfl ?_
      refine y_if 20 135 Y dX6_lay_20 rfl rfl (fun c => ?_) (fun c => ?_)
      · replace h := h.1 c
        refine y_aload_n 135 Y dX6_lay_135 rfl ?_
        refine y_iload_n 136 Y dX6_lay_136 rfl ?_
        refine y_aload_n 137 Y dX6_lay_137 rfl ?_
        refine y_getf 138 Y 33 dX6_lay_138 rfl rfl (fun _ => ?_)
        refine y_call 141 Y (as := [mi l1, mi (T 33 0)]) [] dX6_lay_141 rfl rfl rfl rfl rfl h (fun r S1 hq hI _ => ?_)
        obtain ⟨rfl, h⟩ := Qv_ok hq
        replace h := h hI
        clear hq
        refine y_aload_n 144 Y dX6_lay_144 rfl ?_
        refine y_getf 145 Y 33 dX6_lay_145 rfl rfl (fun _ => ?_)
        exact y_iret 148 Y dX6_lay_148 rfl h
      · replace h := h.2 c
        refine y_aload_n 23 Y dX6_lay_23 rfl ?_
        refine y_geta 24 Y 32 dX6_lay_24 rfl rfl ?_
        refine y_iload_n 27 Y dX6_lay_27 rfl ?_
        obtain ⟨o2, h⟩ := h
        obtain ⟨o3, h⟩ := h
        refine y_iald 28 Y dX6_lay_28 rfl rfl o2 o3 (fun _ => ?_)
        refine y_istore_n 29 Y [some mt, some (mi l1), some (mi l2), some (mi (T 32 l2)), none, none, none] dX6_lay_29 rfl rfl ?_
        refine y_aload_n 30 Y dX6_lay_30 rfl ?_
        refine y_iload_n 31 Y dX6_lay_31 rfl ?_
        refine y_iload_n 32 Y dX6_lay_32 rfl ?_
        obtain ⟨o4, h⟩ := h
        refine y_iadd 33 Y dX6_lay_33 o4 ?_
        refine y_aload_n 34 Y dX6_lay_34 rfl ?_
        refine y_geta 35 Y 27 dX6_lay_35 rfl rfl ?_
        refine y_iload_n 38 Y dX6_lay_38 rfl ?_
        refine y_iald 39 Y dX6_lay_39 rfl rfl o2 o3 (fun _ => ?_)
        refine y_aload_n 40 Y dX6_lay_40 rfl ?_
        refine y_geta 41 Y 28 dX6_lay_41 rfl rfl ?_
        refine y_iload_n 44 Y dX6_lay_44 rfl ?_
        refine y_iald 45 Y dX6_lay_45 rfl rfl o2 o3 (fun _ => ?_)
        refine y_aload_n 46 Y dX6_lay_46 rfl ?_
        refine y_geta 47 Y 29 dX6_lay_47 rfl rfl ?_
        refine y_iload_n 50 Y dX6_lay_50 rfl ?_
        refine y_iald 51 Y dX6_lay_51 rfl rfl o2 o3 (fun _ => ?_)
        refine y_aload_n 52 Y dX6_lay_52 rfl ?_
        refine y_geta 53 Y 30 dX6_lay_53 rfl rfl ?_
        refine y_iload_n 56 Y dX6_lay_56 rfl ?_
        refine y_iald 57 Y dX6_lay_57 rfl rfl o2 o3 (fun _ => ?_)
        refine y_call 58 Y (as := [mi (l1 + (T 32 l2)), mi (T 27 l2), mi (T 28 l2), mi (T 29 l2), mi (T 30 l2)]) [] dX6_lay_58 rfl rfl rfl rfl rfl h (fun r S5 hq hI _ => ?_)
        obtain ⟨rfl, h⟩ := Qv_ok hq
        replace h := h hI
        clear hq
        refine y_iload_n 61 Y dX6_lay_61 rfl ?_
        refine y_iconst 62 Y dX6_lay_62 rfl ?_
        obtain ⟨o6, h⟩ := h
        refine y_isub 63 Y dX6_lay_63 o6 ?_
        refine y_istore 64 Y [some mt, some (mi l1), some (mi l2), some (mi (T 32 l2)), some (mi (l2 - 1)), none, none] dX6_lay_64 rfl rfl ?_
        refine y_iload_n 66 Y dX6_lay_66 rfl ?_
        refine y_aload_n 67 Y dX6_lay_67 rfl ?_
        refine y_geta 68 Y 31 dX6_lay_68 rfl rfl ?_
        refine y_iload_n 71 Y dX6_lay_71 rfl ?_
        refine y_iald 72 Y dX6_lay_72 rfl rfl o2 o3 (fun _ => ?_)
        obtain ⟨o7, h⟩ := h
        refine y_iadd 73 Y dX6_lay_73 o7 ?_
        refine y_istore 74 Y [some mt, some (mi l1), some (mi l2), some (mi (T 32 l2)), some (mi (l2 - 1)), some (mi ((T 32 l2) + (S5 31 l2))), none] dX6_lay_74 rfl rfl ?_
        refine y_iconst 76 Y dX6_lay_76 rfl ?_
        refine y_istore 77 Y [some mt, some (mi l1), some (mi l2), some (mi (T 32 l2)), some (mi (l2 - 1)), some (mi ((T 32 l2) + (S5 31 l2))), some (mi 0)] dX6_lay_77 rfl rfl ?_
        obtain ⟨n1, hn, h⟩ := h
        exact Wk 79 _ [some mt, some (mi l1), some (mi l2), none, some (mi (l2 - 1)), some (mi ((T 32 l2) + (S5 31 l2))), some (mi 0)] _ _ ⟨rfl, ⟨rfl, ⟨rfl, ⟨rfl, ⟨rfl, ⟨rfl, trivial⟩⟩⟩⟩⟩⟩ (hIc n1 _ _ _ _ hn (Or.inr ((⟨rfl, _, _, _, _, _, rfl, rfl, h⟩))))
    · have h := h79 n l1 l2 l4 l5 l6 T hS (hL 1 _ rfl) (hL 2 _ rfl) (hL 4 _ rfl) (hL 5 _ rfl) (hL 6 _ rfl) hi
      clear hL hi h19 h79
      refine y_iload 79 Y dX6_lay_79 rfl ?_
      refine y_aload_n 81 Y dX6_lay_81 rfl ?_
      refine y_geta 82 Y 30 dX6_lay_82 rfl rfl ?_
      refine y_iload_n 85 Y dX6_lay_85 rfl ?_
      obtain ⟨o1, h⟩ := h
      obtain ⟨o2, h⟩ := h
      refine y_iald 86 Y dX6_lay_86 rfl rfl o1 o2 (fun _ => ?_)
      refine y_icmp 87 129 Y dX6_lay_87 rfl rfl (fun c => ?_) (fun c => ?_)
      · replace h := h.1 c
        obtain ⟨o3, h⟩ := h
        refine y_iinc 129 Y [some mt, some (mi l1), some (mi (l2 + (-1))), none, some (mi l4), some (mi l5), some (mi l6)] dX6_lay_129 rfl rfl o3 ?_
        refine y_goto 132 19 Y dX6_lay_132 rfl rfl ?_
        obtain ⟨n1, hn, h⟩ := h
        exact Wk 19 _ [some mt, some (mi l1), some (mi (l2 + (-1))), none, none, none, none] _ _ ⟨rfl, ⟨rfl, ⟨rfl, trivial⟩⟩⟩ (hIc n1 _ _ _ _ hn (Or.inl (⟨rfl, _, _, rfl, rfl, h⟩)))
      · replace h := h.2 c
        refine y_iload 90 Y dX6_lay_90 rfl ?_
        refine y_aload_n 92 Y dX6_lay_92 rfl ?_
        refine y_geta 93 Y 31 dX6_lay_93 rfl rfl ?_
        refine y_iload 96 Y dX6_lay_96 rfl ?_
        obtain ⟨o4, h⟩ := h
        obtain ⟨o5, h⟩ := h
        refine y_iald 98 Y dX6_lay_98 rfl rfl o4 o5 (fun _ => ?_)
        obtain ⟨o6, h⟩ := h
        refine y_isub 99 Y dX6_lay_99 o6 ?_
        refine y_istore 100 Y [some mt, some (mi l1), some (mi l2), none, some (mi l4), some (mi (l5 - (T 31 l4))), some (mi l6)] dX6_lay_100 rfl rfl ?_
        refine y_aload_n 102 Y dX6_lay_102 rfl ?_
        refine y_geta 103 Y 32 dX6_lay_103 rfl rfl ?_
        refine y_iload 106 Y dX6_lay_106 rfl ?_
        refine y_iload 108 Y dX6_lay_108 rfl ?_
        refine y_iast 110 Y dX6_lay_110 rfl rfl o4 o5 ?_
        refine y_iload 111 Y dX6_lay_111 rfl ?_
        refine y_aload_n 113 Y dX6_lay_113 rfl ?_
        refine y_geta 114 Y 31 dX6_lay_114 rfl rfl ?_
        refine y_iload 117 Y dX6_lay_117 rfl ?_
        refine y_iald 119 Y dX6_lay_119 rfl rfl o4 o5 (fun _ => ?_)
        obtain ⟨o7, h⟩ := h
        refine y_isub 120 Y dX6_lay_120 o7 ?_
        refine y_istore 121 Y [some mt, some (mi l1), some (mi l2), none, some (mi (l4 - (T 31 l4))), some (mi (l5 - (T 31 l4))), some (mi l6)] dX6_lay_121 rfl rfl ?_
        obtain ⟨o8, h⟩ := h
        refine y_iinc 123 Y [some mt, some (mi l1), some (mi l2), none, some (mi (l4 - (T 31 l4))), some (mi (l5 - (T 31 l4))), some (mi (l6 + 1))] dX6_lay_123 rfl rfl o8 ?_
        refine y_goto 126 79 Y dX6_lay_126 rfl rfl ?_
        obtain ⟨n1, hn, h⟩ := h
        exact Wk 79 _ [some mt, some (mi l1), some (mi l2), none, some (mi (l4 - (T 31 l4))), some (mi (l5 - (T 31 l4))), some (mi (l6 + 1))] _ _ ⟨rfl, ⟨rfl, ⟨rfl, ⟨rfl, ⟨rfl, ⟨rfl, trivial⟩⟩⟩⟩⟩⟩ (hIc n1 _ _ _ _ hn (Or.inr ((⟨rfl, _, _, _, _, _, rfl, rfl, h⟩))))
set_option maxHeartbeats 4000000 in
theorem of_layCase {g : mG} {S : mS} {a1 a2 a3 : Int} {Qp : Option mV → mS → Prop}
    (hE : mI S → (-2147483648 ≤ a1 ∧ a1 ≤ 2147483647) → (-2147483648 ≤ a2 ∧ a2 ≤ 2147483647) → (-2147483648 ≤ a3 ∧ a3 ≤ 2147483647) → (-2147483648 ≤ ((8 * a1) : Int) ∧ (8 * a1) ≤ 2147483647) ∧ (0 ≤ a1) ∧ (a1 < 26) ∧ (-2147483648 ≤ ((2 * (S 12 a1)) : Int) ∧ (2 * (S 12 a1)) ≤ 2147483647) ∧ (-2147483648 ≤ (((8 * a1) + (2 * (S 12 a1))) : Int) ∧ ((8 * a1) + (2 * (S 12 a1))) ≤ 2147483647) ∧ (-2147483648 ≤ ((((8 * a1) + (2 * (S 12 a1))) + a2) : Int) ∧ (((8 * a1) + (2 * (S 12 a1))) + a2) ≤ 2147483647) ∧ ((a3 ≠ (-1)) → (0 ≤ a3) ∧ (a3 < 30) ∧ (0 ≤ (((8 * a1) + (2 * (S 12 a1))) + a2)) ∧ ((((8 * a1) + (2 * (S 12 a1))) + a2) < 208) ∧ (-2147483648 ≤ ((30 * (((8 * a1) + (2 * (S 12 a1))) + a2)) : Int) ∧ (30 * (((8 * a1) + (2 * (S 12 a1))) + a2)) ≤ 2147483647) ∧ (-2147483648 ≤ ((2400 + (30 * (((8 * a1) + (2 * (S 12 a1))) + a2))) : Int) ∧ (2400 + (30 * (((8 * a1) + (2 * (S 12 a1))) + a2))) ≤ 2147483647) ∧ ((a3 ≠ (-1)) → CX_shelf g [mi a3] (mup S 13 (((8 * a1) + (2 * (S 12 a1))) + a2) (S 9 a3)) (Qi fun v14 S13 => mI S13 → (-2147483648 ≤ v14 ∧ v14 ≤ 2147483647) → CX_copyNodes g [mt, mi (2400 + (30 * (((8 * a1) + (2 * (S 12 a1))) + a2))), mi v14, mi (S13 13 (((8 * a1) + (2 * (S 12 a1))) + a2))] S13 (Qv fun S15 => mI S15 → Qp none S15))) ∧ (¬ (a3 ≠ (-1)) → (-2147483648 ≤ ((mup S 13 (((8 * a1) + (2 * (S 12 a1))) + a2) (S 9 a3)) 13 (((8 * a1) + (2 * (S 12 a1))) + a2)) ∧ ((mup S 13 (((8 * a1) + (2 * (S 12 a1))) + a2) (S 9 a3)) 13 (((8 * a1) + (2 * (S 12 a1))) + a2)) ≤ 2147483647 → CX_copyNodes g [mt, mi (2400 + (30 * (((8 * a1) + (2 * (S 12 a1))) + a2))), mi 0, mi ((mup S 13 (((8 * a1) + (2 * (S 12 a1))) + a2) (S 9 a3)) 13 (((8 * a1) + (2 * (S 12 a1))) + a2))] (mup S 13 (((8 * a1) + (2 * (S 12 a1))) + a2) (S 9 a3)) (Qv fun S16 => mI S16 → Qp none S16)))) ∧ (¬ (a3 ≠ (-1)) → (0 ≤ (((8 * a1) + (2 * (S 12 a1))) + a2)) ∧ ((((8 * a1) + (2 * (S 12 a1))) + a2) < 208) ∧ (-2147483648 ≤ ((30 * (((8 * a1) + (2 * (S 12 a1))) + a2)) : Int) ∧ (30 * (((8 * a1) + (2 * (S 12 a1))) + a2)) ≤ 2147483647) ∧ (-2147483648 ≤ ((2400 + (30 * (((8 * a1) + (2 * (S 12 a1))) + a2))) : Int) ∧ (2400 + (30 * (((8 * a1) + (2 * (S 12 a1))) + a2))) ≤ 2147483647) ∧ ((a3 ≠ (-1)) → CX_shelf g [mi a3] (mup S 13 (((8 * a1) + (2 * (S 12 a1))) + a2) 0) (Qi fun v22 S21 => mI S21 → (-2147483648 ≤ v22 ∧ v22 ≤ 2147483647) → CX_copyNodes g [mt, mi (2400 + (30 * (((8 * a1) + (2 * (S 12 a1))) + a2))), mi v22, mi (S21 13 (((8 * a1) + (2 * (S 12 a1))) + a2))] S21 (Qv fun S23 => mI S23 → Qp none S23))) ∧ (¬ (a3 ≠ (-1)) → (-2147483648 ≤ ((mup S 13 (((8 * a1) + (2 * (S 12 a1))) + a2) 0) 13 (((8 * a1) + (2 * (S 12 a1))) + a2)) ∧ ((mup S 13 (((8 * a1) + (2 * (S 12 a1))) + a2) 0) 13 (((8 * a1) + (2 * (S 12 a1))) + a2)) ≤ 2147483647 → CX_copyNodes g [mt, mi (2400 + (30 * (((8 * a1) + (2 * (S 12 a1))) + a2))), mi 0, mi ((mup S 13 (((8 * a1) + (2 * (S 12 a1))) + a2) 0) 13 (((8 * a1) + (2 * (S 12 a1))) + a2))] (mup S 13 (((8 * a1) + (2 * (S 12 a1))) + a2) 0) (Qv fun S24 => mI S24 → Qp none S24)))))
    : CX_layCase g [mt, mi a1, mi a2, mi a3] S Qp := by
  refine cm_y ⟨by decide, rfl⟩ (by simp [mcat]) (by simp) (fun _ _ _ _ _ => False) ?_ ?_
  · intro ha hS P Y Wk hIc
    have h := hE hS (mokI (ha (mi a1) (by simp))) (mokI (ha (mi a2) (by simp))) (mokI (ha (mi a3) (by simp)))
    clear hE ha
    refine y_bipush 0 Y dX6_layCase_0 rfl ?_
    refine y_iload_n 2 Y dX6_layCase_2 rfl ?_
    obtain ⟨o1, h⟩ := h
    refine y_imul 3 Y dX6_layCase_3 o1 ?_
    refine y_iconst 4 Y dX6_layCase_4 rfl ?_
    refine y_aload_n 5 Y dX6_layCase_5 rfl ?_
    refine y_geta 6 Y 12 dX6_layCase_6 rfl rfl ?_
    refine y_iload_n 9 Y dX6_layCase_9 rfl ?_
    obtain ⟨o2, h⟩ := h
    obtain ⟨o3, h⟩ := h
    refine y_iald 10 Y dX6_layCase_10 rfl rfl o2 o3 (fun _ => ?_)
    obtain ⟨o4, h⟩ := h
    refine y_imul 11 Y dX6_layCase_11 o4 ?_
    obtain ⟨o5, h⟩ := h
    refine y_iadd 12 Y dX6_layCase_12 o5 ?_
    refine y_iload_n 13 Y dX6_layCase_13 rfl ?_
    obtain ⟨o6, h⟩ := h
    refine y_iadd 14 Y dX6_layCase_14 o6 ?_
    refine y_istore 15 Y [some mt, some (mi a1), some (mi a2), some (mi a3), some (mi (((8 * a1) + (2 * (S 12 a1))) + a2))] dX6_layCase_15 rfl rfl ?_
    refine y_aload_n 17 Y dX6_layCase_17 rfl ?_
    refine y_geta 18 Y 13 dX6_layCase_18 rfl rfl ?_
    refine y_iload 21 Y dX6_layCase_21 rfl ?_
    refine y_iload_n 23 Y dX6_layCase_23 rfl ?_
    refine y_iconst 24 Y dX6_layCase_24 rfl ?_
    refine y_icmp 25 32 Y dX6_layCase_25 rfl rfl (fun c => ?_) (fun c => ?_)
    · replace h := h.1 c
      refine y_aload_n 32 Y dX6_layCase_32 rfl ?_
      refine y_geta 33 Y 9 dX6_layCase_33 rfl rfl ?_
      refine y_iload_n 36 Y dX6_layCase_36 rfl ?_
      obtain ⟨o7, h⟩ := h
      obtain ⟨o8, h⟩ := h
      refine y_iald 37 Y dX6_layCase_37 rfl rfl o7 o8 (fun _ => ?_)
      obtain ⟨o9, h⟩ := h
      obtain ⟨o10, h⟩ := h
      refine y_iast 38 Y dX6_layCase_38 rfl rfl o9 o10 ?_
      refine y_aload_n 39 Y dX6_layCase_39 rfl ?_
      refine y_sipush 40 Y dX6_layCase_40 rfl ?_
      refine y_bipush 43 Y dX6_layCase_43 rfl ?_
      refine y_iload 45 Y dX6_layCase_45 rfl ?_
      obtain ⟨o11, h⟩ := h
      refine y_imul 47 Y dX6_layCase_47 o11 ?_
      obtain ⟨o12, h⟩ := h
      refine y_iadd 48 Y dX6_layCase_48 o12 ?_
      refine y_iload_n 49 Y dX6_layCase_49 rfl ?_
      refine y_iconst 50 Y dX6_layCase_50 rfl ?_
      refine y_icmp 51 58 Y dX6_layCase_51 rfl rfl (fun c => ?_) (fun c => ?_)
      · replace h := h.1 c
        refine y_iload_n 58 Y dX6_layCase_58 rfl ?_
        refine y_calls 59 Y (as := [mi a3]) [mi (2400 + (30 * (((8 * a1) + (2 * (S 12 a1))) + a2))), mt] dX6_layCase_59 rfl rfl rfl rfl rfl h (fun r S13 hq hI hr => ?_)
        obtain ⟨v14, rfl, h⟩ := Qi_ok hq
        replace h := h hI (mokI (hr _ rfl))
        clear hq hr
        refine y_aload_n 62 Y dX6_layCase_62 rfl ?_
        refine y_geta 63 Y 13 dX6_layCase_63 rfl rfl ?_
        refine y_iload 66 Y dX6_layCase_66 rfl ?_
        refine y_iald 68 Y dX6_layCase_68 rfl rfl o9 o10 (fun _ => ?_)
        refine y_call 69 Y (as := [mi (2400 + (30 * (((8 * a1) + (2 * (S 12 a1))) + a2))), mi v14, mi (S13 13 (((8 * a1) + (2 * (S 12 a1))) + a2))]) [] dX6_layCase_69 rfl rfl rfl rfl rfl h (fun r S15 hq hI _ => ?_)
        obtain ⟨rfl, h⟩ := Qv_ok hq
        replace h := h hI
        clear hq
        exact y_ret 72 Y dX6_layCase_72 rfl h
      · replace h := h.2 c
        refine y_iconst 54 Y dX6_layCase_54 rfl ?_
        refine y_goto 55 62 Y dX6_layCase_55 rfl rfl ?_
        refine y_aload_n 62 Y dX6_layCase_62 rfl ?_
        refine y_geta 63 Y 13 dX6_layCase_63 rfl rfl ?_
        refine y_iload 66 Y dX6_layCase_66 rfl ?_
        refine y_iald 68 Y dX6_layCase_68 rfl rfl o9 o10 (fun q => ?_)
        replace h := h q
        refine y_call 69 Y (as := [mi (2400 + (30 * (((8 * a1) + (2 * (S 12 a1))) + a2))), mi 0, mi ((mup S 13 (((8 * a1) + (2 * (S 12 a1))) + a2) (S 9 a3)) 13 (((8 * a1) + (2 * (S 12 a1))) + a2))]) [] dX6_layCase_69 rfl rfl rfl rfl rfl h (fun r S16 hq hI _ => ?_)
        obtain ⟨rfl, h⟩ := Qv_ok hq
        replace h := h hI
        clear hq
        exact y_ret 72 Y dX6_layCase_72 rfl h
    · replace h := h.2 c
      refine y_iconst 28 Y dX6_layCase_28 rfl ?_
      refine y_goto 29 38 Y dX6_layCase_29 rfl rfl ?_
      obtain ⟨o17, h⟩ := h
      obtain ⟨o18, h⟩ := h
      refine y_iast 38 Y dX6_layCase_38 rfl rfl o17 o18 ?_
      refine y_aload_n 39 Y dX6_layCase_39 rfl ?_
      refine y_sipush 40 Y dX6_layCase_40 rfl ?_
      refine y_bipush 43 Y dX6_layCase_43 rfl ?_
      refine y_iload 45 Y dX6_layCase_45 rfl ?_
      obtain ⟨o19, h⟩ := h
      refine y_imul 47 Y dX6_layCase_47 o19 ?_
      obtain ⟨o20, h⟩ := h
      refine y_iadd 48 Y dX6_layCase_48 o20 ?_
      refine y_iload_n 49 Y dX6_layCase_49 rfl ?_
      refine y_iconst 50 Y dX6_layCase_50 rfl ?_
      refine y_icmp 51 58 Y dX6_layCase_51 rfl rfl (fun c => ?_) (fun c => ?_)
      · replace h := h.1 c
        refine y_iload_n 58 Y dX6_layCase_58 rfl ?_
        refine y_calls 59 Y (as := [mi a3]) [mi (2400 + (30 * (((8 * a1) + (2 * (S 12 a1))) + a2))), mt] dX6_layCase_59 rfl rfl rfl rfl rfl h (fun r S21 hq hI hr => ?_)
        obtain ⟨v22, rfl, h⟩ := Qi_ok hq
        replace h := h hI (mokI (hr _ rfl))
        clear hq hr
        refine y_aload_n 62 Y dX6_layCase_62 rfl ?_
        refine y_geta 63 Y 13 dX6_layCase_63 rfl rfl ?_
        refine y_iload 66 Y dX6_layCase_66 rfl ?_
        refine y_iald 68 Y dX6_layCase_68 rfl rfl o17 o18 (fun _ => ?_)
        refine y_call 69 Y (as := [mi (2400 + (30 * (((8 * a1) + (2 * (S 12 a1))) + a2))), mi v22, mi (S21 13 (((8 * a1) + (2 * (S 12 a1))) + a2))]) [] dX6_layCase_69 rfl rfl rfl rfl rfl h (fun r S23 hq hI _ => ?_)
        obtain ⟨rfl, h⟩ := Qv_ok hq
        replace h := h hI
        clear hq
        exact y_ret 72 Y dX6_layCase_72 rfl h
      · replace h := h.2 c
        refine y_iconst 54 Y dX6_layCase_54 rfl ?_
        refine y_goto 55 62 Y dX6_layCase_55 rfl rfl ?_
        refine y_aload_n 62 Y dX6_layCase_62 rfl ?_
        refine y_geta 63 Y 13 dX6_layCase_63 rfl rfl ?_
        refine y_iload 66 Y dX6_layCase_66 rfl ?_
        refine y_iald 68 Y dX6_layCase_68 rfl rfl o17 o18 (fun q => ?_)
        replace h := h q
        refine y_call 69 Y (as := [mi (2400 + (30 * (((8 * a1) + (2 * (S 12 a1))) + a2))), mi 0, mi ((mup S 13 (((8 * a1) + (2 * (S 12 a1))) + a2) 0) 13 (((8 * a1) + (2 * (S 12 a1))) + a2))]) [] dX6_layCase_69 rfl rfl rfl rfl rfl h (fun r S24 hq hI _ => ?_)
        obtain ⟨rfl, h⟩ := Qv_ok hq
        replace h := h hI
        clear hq
        exact y_ret 72 Y dX6_layCase_72 rfl h
  · intro n pc L st T hi
    exact hi.elim
set_option maxHeartbeats 4000000 in
theorem of_load {g : mG} {S : mS} {a1 a2 a3 : Int} {Qp : Option mV → mS → Prop} (I3 : Nat → Int → Int → Int → Int → mS → Prop)
    (hE : mI S → (-2147483648 ≤ a1 ∧ a1 ≤ 2147483647) → (-2147483648 ≤ a2 ∧ a2 ≤ 2147483647) → (-2147483648 ≤ a3 ∧ a3 ≤ 2147483647) → (∃ n1, I3 n1 a1 a2 a3 0 S))
    (h3 : ∀ (n : Nat) (l1 l2 l3 l4 : Int) (T : mS), mI T → (-2147483648 ≤ l1 ∧ l1 ≤ 2147483647) → (-2147483648 ≤ l2 ∧ l2 ≤ 2147483647) → (-2147483648 ≤ l3 ∧ l3 ≤ 2147483647) → (-2147483648 ≤ l4 ∧ l4 ≤ 2147483647) → I3 n l1 l2 l3 l4 T → ((13 ≤ l4) → (0 ≤ l1) ∧ (l1 < 16) ∧ CX_trim g [mt, mi l1] (mup T 2 l1 13) (Qv fun S3 => mI S3 → Qp none S3)) ∧ (¬ (13 ≤ l4) → (-2147483648 ≤ ((440 * l1) : Int) ∧ (440 * l1) ≤ 2147483647) ∧ (-2147483648 ≤ (((440 * l1) + l4) : Int) ∧ ((440 * l1) + l4) ≤ 2147483647) ∧ (-2147483648 ≤ ((28 * l2) : Int) ∧ (28 * l2) ≤ 2147483647) ∧ (-2147483648 ≤ (((28 * l2) + l3) : Int) ∧ ((28 * l2) + l3) ≤ 2147483647) ∧ (-2147483648 ≤ ((((28 * l2) + l3) + l4) : Int) ∧ (((28 * l2) + l3) + l4) ≤ 2147483647) ∧ (0 ≤ (((28 * l2) + l3) + l4)) ∧ ((((28 * l2) + l3) + l4) < 104160) ∧ (0 ≤ ((440 * l1) + l4)) ∧ (((440 * l1) + l4) < 7040) ∧ (-2147483648 ≤ ((l4 + 1) : Int) ∧ (l4 + 1) ≤ 2147483647) ∧ (∃ n1, n1 < n ∧ I3 n1 l1 l2 l3 (l4 + 1) (mup T 1 ((440 * l1) + l4) (T 3 (((28 * l2) + l3) + l4))))))
    : CX_load g [mt, mi a1, mi a2, mi a3] S Qp := by
  refine cm_y ⟨by decide, rfl⟩ (by simp [mcat]) (by simp) (fun n pc L st S => (pc = 3 ∧ ∃ (l1 : Int) (l2 : Int) (l3 : Int) (l4 : Int), L = [some mt, some (mi l1), some (mi l2), some (mi l3), some (mi l4)] ∧ st = [] ∧ I3 n l1 l2 l3 l4 S)) ?_ ?_
  · intro ha hS P Y Wk hIc
    have h := hE hS (mokI (ha (mi a1) (by simp))) (mokI (ha (mi a2) (by simp))) (mokI (ha (mi a3) (by simp)))
    clear hE ha h3
    refine y_iconst 0 Y dX6_load_0 rfl ?_
    refine y_istore 1 Y [some mt, some (mi a1), some (mi a2), some (mi a3), some (mi 0)] dX6_load_1 rfl rfl ?_
    obtain ⟨n1, h⟩ := h
    exact Wk 3 _ [some mt, some (mi a1), some (mi a2), some (mi a3), some (mi 0)] _ _ ⟨rfl, ⟨rfl, ⟨rfl, ⟨rfl, ⟨rfl, trivial⟩⟩⟩⟩⟩ (hIc n1 _ _ _ _ ((⟨rfl, _, _, _, _, rfl, rfl, h⟩)))
  · intro n pc L st T hi hS hL P Y Wk hIc
    clear hE
    rcases hi with ⟨rfl, l1, l2, l3, l4, rfl, rfl, hi⟩
    · have h := h3 n l1 l2 l3 l4 T hS (hL 1 _ rfl) (hL 2 _ rfl) (hL 3 _ rfl) (hL 4 _ rfl) hi
      clear hL hi h3
      refine y_iload 3 Y dX6_load_3 rfl ?_
      refine y_bipush 5 Y dX6_load_5 rfl ?_
      refine y_icmp 7 43 Y dX6_load_7 rfl rfl (fun c => ?_) (fun c => ?_)
      · replace h := h.1 c
        refine y_aload_n 43 Y dX6_load_43 rfl ?_
        refine y_geta 44 Y 2 dX6_load_44 rfl rfl ?_
        refine y_iload_n 47 Y dX6_load_47 rfl ?_
        refine y_bipush 48 Y dX6_load_48 rfl ?_
        obtain ⟨o1, h⟩ := h
        obtain ⟨o2, h⟩ := h
        refine y_iast 50 Y dX6_load_50 rfl rfl o1 o2 ?_
        refine y_aload_n 51 Y dX6_load_51 rfl ?_
        refine y_iload_n 52 Y dX6_load_52 rfl ?_
        refine y_call 53 Y (as := [mi l1]) [] dX6_load_53 rfl rfl rfl rfl rfl h (fun r S3 hq hI _ => ?_)
        obtain ⟨rfl, h⟩ := Qv_ok hq
        replace h := h hI
        clear hq
        exact y_ret 56 Y dX6_load_56 rfl h
      · replace h := h.2 c
        refine y_aload_n 10 Y dX6_load_10 rfl ?_
        refine y_geta 11 Y 1 dX6_load_11 rfl rfl ?_
        refine y_sipush 14 Y dX6_load_14 rfl ?_
        refine y_iload_n 17 Y dX6_load_17 rfl ?_
        obtain ⟨o4, h⟩ := h
        refine y_imul 18 Y dX6_load_18 o4 ?_
        refine y_iload 19 Y dX6_load_19 rfl ?_
        obtain ⟨o5, h⟩ := h
        refine y_iadd 21 Y dX6_load_21 o5 ?_
        refine y_aload_n 22 Y dX6_load_22 rfl ?_
        refine y_geta 23 Y 3 dX6_load_23 rfl rfl ?_
        refine y_bipush 26 Y dX6_load_26 rfl ?_
        refine y_iload_n 28 Y dX6_load_28 rfl ?_
        obtain ⟨o6, h⟩ := h
        refine y_imul 29 Y dX6_load_29 o6 ?_
        refine y_iload_n 30 Y dX6_load_30 rfl ?_
        obtain ⟨o7, h⟩ := h
        refine y_iadd 31 Y dX6_load_31 o7 ?_
        refine y_iload 32 Y dX6_load_32 rfl ?_
        obtain ⟨o8, h⟩ := h
        refine y_iadd 34 Y dX6_load_34 o8 ?_
        obtain ⟨o9, h⟩ := h
        obtain ⟨o10, h⟩ := h
        refine y_iald 35 Y dX6_load_35 rfl rfl o9 o10 (fun _ => ?_)
        obtain ⟨o11, h⟩ := h
        obtain ⟨o12, h⟩ := h
        refine y_iast 36 Y dX6_load_36 rfl rfl o11 o12 ?_
        obtain ⟨o13, h⟩ := h
        refine y_iinc 37 Y [some mt, some (mi l1), some (mi l2), some (mi l3), some (mi (l4 + 1))] dX6_load_37 rfl rfl o13 ?_
        refine y_goto 40 3 Y dX6_load_40 rfl rfl ?_
        obtain ⟨n1, hn, h⟩ := h
        exact Wk 3 _ [some mt, some (mi l1), some (mi l2), some (mi l3), some (mi (l4 + 1))] _ _ ⟨rfl, ⟨rfl, ⟨rfl, ⟨rfl, ⟨rfl, trivial⟩⟩⟩⟩⟩ (hIc n1 _ _ _ _ hn ((⟨rfl, _, _, _, _, rfl, rfl, h⟩)))
set_option maxHeartbeats 4000000 in
theorem of_look {g : mG} {S : mS} {a1 a2 : Int} {Qp : Option mV → mS → Prop} (I2 : Nat → Int → Int → mS → Prop)
    (hE : mI S → (-2147483648 ≤ a1 ∧ a1 ≤ 2147483647) → (-2147483648 ≤ a2 ∧ a2 ≤ 2147483647) → (∃ n1, I2 n1 a1 a2 S))
    (h2 : ∀ (n : Nat) (l1 l3 : Int) (T : mS), mI T → (-2147483648 ≤ l1 ∧ l1 ≤ 2147483647) → (-2147483648 ≤ l3 ∧ l3 ≤ 2147483647) → I2 n l1 l3 T → ((l3 < 0) → ((l3 < 0) → ((l3 < 0) → (-2147483648 ≤ ((l1 - 97) : Int) ∧ (l1 - 97) ≤ 2147483647) ∧ (0 ≤ (l1 - 97)) ∧ ((l1 - 97) < 26) ∧ (((T 47 (l1 - 97)) = 0) → Qp (some (mi (-1))) T) ∧ (¬ ((T 47 (l1 - 97)) = 0) → Qp (some (mi (l1 - 97))) T)) ∧ (¬ (l3 < 0) → CX_in g [mi l1, mi 120, mi 122] T (Qi fun v5 S4 => mI S4 → (-2147483648 ≤ v5 ∧ v5 ≤ 2147483647) → ((v5 = 0) → (-2147483648 ≤ ((l1 - 97) : Int) ∧ (l1 - 97) ≤ 2147483647) ∧ (0 ≤ (l1 - 97)) ∧ ((l1 - 97) < 26) ∧ (((S4 47 (l1 - 97)) = 0) → Qp (some (mi (-1))) S4) ∧ (¬ ((S4 47 (l1 - 97)) = 0) → Qp (some (mi (l1 - 97))) S4)) ∧ (¬ (v5 = 0) → (-2147483648 ≤ ((l1 - 120) : Int) ∧ (l1 - 120) ≤ 2147483647) ∧ (0 ≤ l3) ∧ (l3 < 500) ∧ (((S4 58 l3) ≤ (l1 - 120)) → (-2147483648 ≤ ((l1 - 97) : Int) ∧ (l1 - 97) ≤ 2147483647) ∧ (0 ≤ (l1 - 97)) ∧ ((l1 - 97) < 26) ∧ (((S4 47 (l1 - 97)) = 0) → Qp (some (mi (-1))) S4) ∧ (¬ ((S4 47 (l1 - 97)) = 0) → Qp (some (mi (l1 - 97))) S4)) ∧ (¬ ((S4 58 l3) ≤ (l1 - 120)) → (-2147483648 ≤ ((3 * l3) : Int) ∧ (3 * l3) ≤ 2147483647) ∧ (-2147483648 ≤ ((1000 + (3 * l3)) : Int) ∧ (1000 + (3 * l3)) ≤ 2147483647) ∧ (-2147483648 ≤ (((1000 + (3 * l3)) + l1) : Int) ∧ ((1000 + (3 * l3)) + l1) ≤ 2147483647) ∧ (-2147483648 ≤ ((((1000 + (3 * l3)) + l1) - 120) : Int) ∧ (((1000 + (3 * l3)) + l1) - 120) ≤ 2147483647) ∧ Qp (some (mi (((1000 + (3 * l3)) + l1) - 120))) S4))))) ∧ (¬ (l3 < 0) → (0 ≤ l3) ∧ (l3 < 500) ∧ (((T 58 l3) ≠ 0) → ((l3 < 0) → (-2147483648 ≤ ((l1 - 97) : Int) ∧ (l1 - 97) ≤ 2147483647) ∧ (0 ≤ (l1 - 97)) ∧ ((l1 - 97) < 26) ∧ (((T 47 (l1 - 97)) = 0) → Qp (some (mi (-1))) T) ∧ (¬ ((T 47 (l1 - 97)) = 0) → Qp (some (mi (l1 - 97))) T)) ∧ (¬ (l3 < 0) → CX_in g [mi l1, mi 120, mi 122] T (Qi fun v25 S24 => mI S24 → (-2147483648 ≤ v25 ∧ v25 ≤ 2147483647) → ((v25 = 0) → (-2147483648 ≤ ((l1 - 97) : Int) ∧ (l1 - 97) ≤ 2147483647) ∧ (0 ≤ (l1 - 97)) ∧ ((l1 - 97) < 26) ∧ (((S24 47 (l1 - 97)) = 0) → Qp (some (mi (-1))) S24) ∧ (¬ ((S24 47 (l1 - 97)) = 0) → Qp (some (mi (l1 - 97))) S24)) ∧ (¬ (v25 = 0) → (-2147483648 ≤ ((l1 - 120) : Int) ∧ (l1 - 120) ≤ 2147483647) ∧ (((S24 58 l3) ≤ (l1 - 120)) → (-2147483648 ≤ ((l1 - 97) : Int) ∧ (l1 - 97) ≤ 2147483647) ∧ (0 ≤ (l1 - 97)) ∧ ((l1 - 97) < 26) ∧ (((S24 47 (l1 - 97)) = 0) → Qp (some (mi (-1))) S24) ∧ (¬ ((S24 47 (l1 - 97)) = 0) → Qp (some (mi (l1 - 97))) S24)) ∧ (¬ ((S24 58 l3) ≤ (l1 - 120)) → (-2147483648 ≤ ((3 * l3) : Int) ∧ (3 * l3) ≤ 2147483647) ∧ (-2147483648 ≤ ((1000 + (3 * l3)) : Int) ∧ (1000 + (3 * l3)) ≤ 2147483647) ∧ (-2147483648 ≤ (((1000 + (3 * l3)) + l1) : Int) ∧ ((1000 + (3 * l3)) + l1) ≤ 2147483647) ∧ (-2147483648 ≤ ((((1000 + (3 * l3)) + l1) - 120) : Int) ∧ (((1000 + (3 * l3)) + l1) - 120) ≤ 2147483647) ∧ Qp (some (mi (((1000 + (3 * l3)) + l1) - 120))) S24))))) ∧ (¬ ((T 58 l3) ≠ 0) → (-2147483648 ≤ ((3 * l3) : Int) ∧ (3 * l3) ≤ 2147483647) ∧ (-2147483648 ≤ ((1000 + (3 * l3)) : Int) ∧ (1000 + (3 * l3)) ≤ 2147483647) ∧ Qp (some (mi (1000 + (3 * l3)))) T))) ∧ (¬ (l3 < 0) → (0 ≤ l3) ∧ (l3 < 500) ∧ (((T 58 l3) ≠ 0) → ((l3 < 0) → ((l3 < 0) → (-2147483648 ≤ ((l1 - 97) : Int) ∧ (l1 - 97) ≤ 2147483647) ∧ (0 ≤ (l1 - 97)) ∧ ((l1 - 97) < 26) ∧ (((T 47 (l1 - 97)) = 0) → Qp (some (mi (-1))) T) ∧ (¬ ((T 47 (l1 - 97)) = 0) → Qp (some (mi (l1 - 97))) T)) ∧ (¬ (l3 < 0) → CX_in g [mi l1, mi 120, mi 122] T (Qi fun v45 S44 => mI S44 → (-2147483648 ≤ v45 ∧ v45 ≤ 2147483647) → ((v45 = 0) → (-2147483648 ≤ ((l1 - 97) : Int) ∧ (l1 - 97) ≤ 2147483647) ∧ (0 ≤ (l1 - 97)) ∧ ((l1 - 97) < 26) ∧ (((S44 47 (l1 - 97)) = 0) → Qp (some (mi (-1))) S44) ∧ (¬ ((S44 47 (l1 - 97)) = 0) → Qp (some (mi (l1 - 97))) S44)) ∧ (¬ (v45 = 0) → (-2147483648 ≤ ((l1 - 120) : Int) ∧ (l1 - 120) ≤ 2147483647) ∧ (((S44 58 l3) ≤ (l1 - 120)) → (-2147483648 ≤ ((l1 - 97) : Int) ∧ (l1 - 97) ≤ 2147483647) ∧ (0 ≤ (l1 - 97)) ∧ ((l1 - 97) < 26) ∧ (((S44 47 (l1 - 97)) = 0) → Qp (some (mi (-1))) S44) ∧ (¬ ((S44 47 (l1 - 97)) = 0) → Qp (some (mi (l1 - 97))) S44)) ∧ (¬ ((S44 58 l3) ≤ (l1 - 120)) → (-2147483648 ≤ ((3 * l3) : Int) ∧ (3 * l3) ≤ 2147483647) ∧ (-2147483648 ≤ ((1000 + (3 * l3)) : Int) ∧ (1000 + (3 * l3)) ≤ 2147483647) ∧ (-2147483648 ≤ (((1000 + (3 * l3)) + l1) : Int) ∧ ((1000 + (3 * l3)) + l1) ≤ 2147483647) ∧ (-2147483648 ≤ ((((1000 + (3 * l3)) + l1) - 120) : Int) ∧ (((1000 + (3 * l3)) + l1) - 120) ≤ 2147483647) ∧ Qp (some (mi (((1000 + (3 * l3)) + l1) - 120))) S44))))) ∧ (¬ (l3 < 0) → (((T 58 l3) ≠ 0) → ((l3 < 0) → (-2147483648 ≤ ((l1 - 97) : Int) ∧ (l1 - 97) ≤ 2147483647) ∧ (0 ≤ (l1 - 97)) ∧ ((l1 - 97) < 26) ∧ (((T 47 (l1 - 97)) = 0) → Qp (some (mi (-1))) T) ∧ (¬ ((T 47 (l1 - 97)) = 0) → Qp (some (mi (l1 - 97))) T)) ∧ (¬ (l3 < 0) → CX_in g [mi l1, mi 120, mi 122] T (Qi fun v61 S60 => mI S60 → (-2147483648 ≤ v61 ∧ v61 ≤ 2147483647) → ((v61 = 0) → (-2147483648 ≤ ((l1 - 97) : Int) ∧ (l1 - 97) ≤ 2147483647) ∧ (0 ≤ (l1 - 97)) ∧ ((l1 - 97) < 26) ∧ (((S60 47 (l1 - 97)) = 0) → Qp (some (mi (-1))) S60) ∧ (¬ ((S60 47 (l1 - 97)) = 0) → Qp (some (mi (l1 - 97))) S60)) ∧ (¬ (v61 = 0) → (-2147483648 ≤ ((l1 - 120) : Int) ∧ (l1 - 120) ≤ 2147483647) ∧ (((S60 58 l3) ≤ (l1 - 120)) → (-2147483648 ≤ ((l1 - 97) : Int) ∧ (l1 - 97) ≤ 2147483647) ∧ (0 ≤ (l1 - 97)) ∧ ((l1 - 97) < 26) ∧ (((S60 47 (l1 - 97)) = 0) → Qp (some (mi (-1))) S60) ∧ (¬ ((S60 47 (l1 - 97)) = 0) → Qp (some (mi (l1 - 97))) S60)) ∧ (¬ ((S60 58 l3) ≤ (l1 - 120)) → (-2147483648 ≤ ((3 * l3) : Int) ∧ (3 * l3) ≤ 2147483647) ∧ (-2147483648 ≤ ((1000 + (3 * l3)) : Int) ∧ (1000 + (3 * l3)) ≤ 2147483647) ∧ (-2147483648 ≤ (((1000 + (3 * l3)) + l1) : Int) ∧ ((1000 + (3 * l3)) + l1) ≤ 2147483647) ∧ (-2147483648 ≤ ((((1000 + (3 * l3)) + l1) - 120) : Int) ∧ (((1000 + (3 * l3)) + l1) - 120) ≤ 2147483647) ∧ Qp (some (mi (((1000 + (3 * l3)) + l1) - 120))) S60))))) ∧ (¬ ((T 58 l3) ≠ 0) → (-2147483648 ≤ ((3 * l3) : Int) ∧ (3 * l3) ≤ 2147483647) ∧ (-2147483648 ≤ ((1000 + (3 * l3)) : Int) ∧ (1000 + (3 * l3)) ≤ 2147483647) ∧ Qp (some (mi (1000 + (3 * l3)))) T))) ∧ (¬ ((T 58 l3) ≠ 0) → (((T 57 l3) = l1) → ((l3 < 0) → ((l3 < 0) → (-2147483648 ≤ ((l1 - 97) : Int) ∧ (l1 - 97) ≤ 2147483647) ∧ (0 ≤ (l1 - 97)) ∧ ((l1 - 97) < 26) ∧ (((T 47 (l1 - 97)) = 0) → Qp (some (mi (-1))) T) ∧ (¬ ((T 47 (l1 - 97)) = 0) → Qp (some (mi (l1 - 97))) T)) ∧ (¬ (l3 < 0) → CX_in g [mi l1, mi 120, mi 122] T (Qi fun v79 S78 => mI S78 → (-2147483648 ≤ v79 ∧ v79 ≤ 2147483647) → ((v79 = 0) → (-2147483648 ≤ ((l1 - 97) : Int) ∧ (l1 - 97) ≤ 2147483647) ∧ (0 ≤ (l1 - 97)) ∧ ((l1 - 97) < 26) ∧ (((S78 47 (l1 - 97)) = 0) → Qp (some (mi (-1))) S78) ∧ (¬ ((S78 47 (l1 - 97)) = 0) → Qp (some (mi (l1 - 97))) S78)) ∧ (¬ (v79 = 0) → (-2147483648 ≤ ((l1 - 120) : Int) ∧ (l1 - 120) ≤ 2147483647) ∧ (((S78 58 l3) ≤ (l1 - 120)) → (-2147483648 ≤ ((l1 - 97) : Int) ∧ (l1 - 97) ≤ 2147483647) ∧ (0 ≤ (l1 - 97)) ∧ ((l1 - 97) < 26) ∧ (((S78 47 (l1 - 97)) = 0) → Qp (some (mi (-1))) S78) ∧ (¬ ((S78 47 (l1 - 97)) = 0) → Qp (some (mi (l1 - 97))) S78)) ∧ (¬ ((S78 58 l3) ≤ (l1 - 120)) → (-2147483648 ≤ ((3 * l3) : Int) ∧ (3 * l3) ≤ 2147483647) ∧ (-2147483648 ≤ ((1000 + (3 * l3)) : Int) ∧ (1000 + (3 * l3)) ≤ 2147483647) ∧ (-2147483648 ≤ (((1000 + (3 * l3)) + l1) : Int) ∧ ((1000 + (3 * l3)) + l1) ≤ 2147483647) ∧ (-2147483648 ≤ ((((1000 + (3 * l3)) + l1) - 120) : Int) ∧ (((1000 + (3 * l3)) + l1) - 120) ≤ 2147483647) ∧ Qp (some (mi (((1000 + (3 * l3)) + l1) - 120))) S78))))) ∧ (¬ (l3 < 0) → (((T 58 l3) ≠ 0) → ((l3 < 0) → (-2147483648 ≤ ((l1 - 97) : Int) ∧ (l1 - 97) ≤ 2147483647) ∧ (0 ≤ (l1 - 97)) ∧ ((l1 - 97) < 26) ∧ (((T 47 (l1 - 97)) = 0) → Qp (some (mi (-1))) T) ∧ (¬ ((T 47 (l1 - 97)) = 0) → Qp (some (mi (l1 - 97))) T)) ∧ (¬ (l3 < 0) → CX_in g [mi l1, mi 120, mi 122] T (Qi fun v95 S94 => mI S94 → (-2147483648 ≤ v95 ∧ v95 ≤ 2147483647) → ((v95 = 0) → (-2147483648 ≤ ((l1 - 97) : Int) ∧ (l1 - 97) ≤ 2147483647) ∧ (0 ≤ (l1 - 97)) ∧ ((l1 - 97) < 26) ∧ (((S94 47 (l1 - 97)) = 0) → Qp (some (mi (-1))) S94) ∧ (¬ ((S94 47 (l1 - 97)) = 0) → Qp (some (mi (l1 - 97))) S94)) ∧ (¬ (v95 = 0) → (-2147483648 ≤ ((l1 - 120) : Int) ∧ (l1 - 120) ≤ 2147483647) ∧ (((S94 58 l3) ≤ (l1 - 120)) → (-2147483648 ≤ ((l1 - 97) : Int) ∧ (l1 - 97) ≤ 2147483647) ∧ (0 ≤ (l1 - 97)) ∧ ((l1 - 97) < 26) ∧ (((S94 47 (l1 - 97)) = 0) → Qp (some (mi (-1))) S94) ∧ (¬ ((S94 47 (l1 - 97)) = 0) → Qp (some (mi (l1 - 97))) S94)) ∧ (¬ ((S94 58 l3) ≤ (l1 - 120)) → (-2147483648 ≤ ((3 * l3) : Int) ∧ (3 * l3) ≤ 2147483647) ∧ (-2147483648 ≤ ((1000 + (3 * l3)) : Int) ∧ (1000 + (3 * l3)) ≤ 2147483647) ∧ (-2147483648 ≤ (((1000 + (3 * l3)) + l1) : Int) ∧ ((1000 + (3 * l3)) + l1) ≤ 2147483647) ∧ (-2147483648 ≤ ((((1000 + (3 * l3)) + l1) - 120) : Int) ∧ (((1000 + (3 * l3)) + l1) - 120) ≤ 2147483647) ∧ Qp (some (mi (((1000 + (3 * l3)) + l1) - 120))) S94))))) ∧ (¬ ((T 58 l3) ≠ 0) → (-2147483648 ≤ ((3 * l3) : Int) ∧ (3 * l3) ≤ 2147483647) ∧ (-2147483648 ≤ ((1000 + (3 * l3)) : Int) ∧ (1000 + (3 * l3)) ≤ 2147483647) ∧ Qp (some (mi (1000 + (3 * l3)))) T))) ∧ (¬ ((T 57 l3) = l1) → (∃ n1, n1 < n ∧ I2 n1 l1 (T 59 l3) T)))))
    : CX_look g [mt, mi a1, mi a2] S Qp := by
  refine cm_y ⟨by decide, rfl⟩ (by simp [mcat]) (by simp) (fun n pc L st S => (pc = 2 ∧ ∃ (l1 : Int) (l3 : Int), L = [some mt, some (mi l1), none, some (mi l3)] ∧ st = [] ∧ I2 n l1 l3 S)) ?_ ?_
  · intro ha hS P Y Wk hIc
    have h := hE hS (mokI (ha (mi a1) (by simp))) (mokI (ha (mi a2) (by simp)))
    clear hE ha h2
    refine y_iload_n 0 Y dX6_look_0 rfl ?_
    refine y_istore_n 1 Y [some mt, some (mi a1), some (mi a2), some (mi a2)] dX6_look_1 rfl rfl ?_
    obtain ⟨n1, h⟩ := h
    exact Wk 2 _ [some mt, some (mi a1), none, some (mi a2)] _ _ ⟨rfl, ⟨rfl, ⟨rfl, trivial⟩⟩⟩ (hIc n1 _ _ _ _ ((⟨rfl, _, _, rfl, rfl, h⟩)))
  · intro n pc L st T hi hS hL P Y Wk hIc
    clear hE
    rcases hi with ⟨rfl, l1, l3, rfl, rfl, hi⟩
    · have h := h2 n l1 l3 T hS (hL 1 _ rfl) (hL 3 _ rfl) hi
      clear hL hi h2
      refine y_iload_n 2 Y dX6_look_2 rfl ?_
      refine y_if 3 35 Y dX6_look_3 rfl rfl (fun c => ?_) (fun c => ?_)
      · replace h := h.1 c
        refine y_iload_n 35 Y dX6_look_35 rfl ?_
        refine y_if 36 56 Y dX6_look_36 rfl rfl (fun c => ?_) (fun c => ?_)
        · replace h := h.1 c
          refine y_iload_n 56 Y dX6_look_56 rfl ?_
          refine y_if 57 97 Y dX6_look_57 rfl rfl (fun c => ?_) (fun c => ?_)
          · replace h := h.1 c
            refine y_aload_n 97 Y dX6_look_97 rfl ?_
            refine y_geta 98 Y 47 dX6_look_98 rfl rfl ?_
            refine y_iload_n 101 Y dX6_look_101 rfl ?_
            refine y_bipush 102 Y dX6_look_102 rfl ?_
            obtain ⟨o1, h⟩ := h
            refine y_isub 104 Y dX6_look_104 o1 ?_
            obtain ⟨o2, h⟩ := h
            obtain ⟨o3, h⟩ := h
            refine y_bald 105 Y dX6_look_105 rfl rfl o2 o3 (fun _ => ?_)
            refine y_if 106 116 Y dX6_look_106 rfl rfl (fun c => ?_) (fun c => ?_)
            · replace h := h.1 c
              refine y_iconst 116 Y dX6_look_116 rfl ?_
              exact y_iret 117 Y dX6_look_117 rfl h
            · replace h := h.2 c
              refine y_iload_n 109 Y dX6_look_109 rfl ?_
              refine y_bipush 110 Y dX6_look_110 rfl ?_
              refine y_isub 112 Y dX6_look_112 o1 ?_
              refine y_goto 113 117 Y dX6_look_113 rfl rfl ?_
              exact y_iret 117 Y dX6_look_117 rfl h
          · replace h := h.2 c
            refine y_iload_n 60 Y dX6_look_60 rfl ?_
            refine y_bipush 61 Y dX6_look_61 rfl ?_
            refine y_bipush 63 Y dX6_look_63 rfl ?_
            refine y_calls 65 Y (as := [mi l1, mi 120, mi 122]) [] dX6_look_65 rfl rfl rfl rfl rfl h (fun r S4 hq hI hr => ?_)
            obtain ⟨v5, rfl, h⟩ := Qi_ok hq
            replace h := h hI (mokI (hr _ rfl))
            clear hq hr
            refine y_if 68 97 Y dX6_look_68 rfl rfl (fun c => ?_) (fun c => ?_)
            · replace h := h.1 c
              refine y_aload_n 97 Y dX6_look_97 rfl ?_
              refine y_geta 98 Y 47 dX6_look_98 rfl rfl ?_
              refine y_iload_n 101 Y dX6_look_101 rfl ?_
              refine y_bipush 102 Y dX6_look_102 rfl ?_
              obtain ⟨o6, h⟩ := h
              refine y_isub 104 Y dX6_look_104 o6 ?_
              obtain ⟨o7, h⟩ := h
              obtain ⟨o8, h⟩ := h
              refine y_bald 105 Y dX6_look_105 rfl rfl o7 o8 (fun _ => ?_)
              refine y_if 106 116 Y dX6_look_106 rfl rfl (fun c => ?_) (fun c => ?_)
              · replace h := h.1 c
                refine y_iconst 116 Y dX6_look_116 rfl ?_
                exact y_iret 117 Y dX6_look_117 rfl h
              · replace h := h.2 c
                refine y_iload_n 109 Y dX6_look_109 rfl ?_
                refine y_bipush 110 Y dX6_look_110 rfl ?_
                refine y_isub 112 Y dX6_look_112 o6 ?_
                refine y_goto 113 117 Y dX6_look_113 rfl rfl ?_
                exact y_iret 117 Y dX6_look_117 rfl h
            · replace h := h.2 c
              refine y_iload_n 71 Y dX6_look_71 rfl ?_
              refine y_bipush 72 Y dX6_look_72 rfl ?_
              obtain ⟨o9, h⟩ := h
              refine y_isub 74 Y dX6_look_74 o9 ?_
              refine y_aload_n 75 Y dX6_look_75 rfl ?_
              refine y_geta 76 Y 58 dX6_look_76 rfl rfl ?_
              refine y_iload_n 79 Y dX6_look_79 rfl ?_
              obtain ⟨o10, h⟩ := h
              obtain ⟨o11, h⟩ := h
              refine y_iald 80 Y dX6_look_80 rfl rfl o10 o11 (fun _ => ?_)
              refine y_icmp 81 97 Y dX6_look_81 rfl rfl (fun c => ?_) (fun c => ?_)
              · replace h := h.1 c
                refine y_aload_n 97 Y dX6_look_97 rfl ?_
                refine y_geta 98 Y 47 dX6_look_98 rfl rfl ?_
                refine y_iload_n 101 Y dX6_look_101 rfl ?_
                refine y_bipush 102 Y dX6_look_102 rfl ?_
                obtain ⟨o12, h⟩ := h
                refine y_isub 104 Y dX6_look_104 o12 ?_
                obtain ⟨o13, h⟩ := h
                obtain ⟨o14, h⟩ := h
                refine y_bald 105 Y dX6_look_105 rfl rfl o13 o14 (fun _ => ?_)
                refine y_if 106 116 Y dX6_look_106 rfl rfl (fun c => ?_) (fun c => ?_)
                · replace h := h.1 c
                  refine y_iconst 116 Y dX6_look_116 rfl ?_
                  exact y_iret 117 Y dX6_look_117 rfl h
                · replace h := h.2 c
                  refine y_iload_n 109 Y dX6_look_109 rfl ?_
                  refine y_bipush 110 Y dX6_look_110 rfl ?_
                  refine y_isub 112 Y dX6_look_112 o12 ?_
                  refine y_goto 113 117 Y dX6_look_113 rfl rfl ?_
                  exact y_iret 117 Y dX6_look_117 rfl h
              · replace h := h.2 c
                refine y_sipush 84 Y dX6_look_84 rfl ?_
                refine y_iconst 87 Y dX6_look_87 rfl ?_
                refine y_iload_n 88 Y dX6_look_88 rfl ?_
                obtain ⟨o15, h⟩ := h
                refine y_imul 89 Y dX6_look_89 o15 ?_
                obtain ⟨o16, h⟩ := h
                refine y_iadd 90 Y dX6_look_90 o16 ?_
                refine y_iload_n 91 Y dX6_look_91 rfl ?_
                obtain ⟨o17, h⟩ := h
                refine y_iadd 92 Y dX6_look_92 o17 ?_
                refine y_bipush 93 Y dX6_look_93 rfl ?_
                obtain ⟨o18, h⟩ := h
                refine y_isub 95 Y dX6_look_95 o18 ?_
                exact y_iret 96 Y dX6_look_96 rfl h
        · replace h := h.2 c
          refine y_aload_n 39 Y dX6_look_39 rfl ?_
          refine y_geta 40 Y 58 dX6_look_40 rfl rfl ?_
          refine y_iload_n 43 Y dX6_look_43 rfl ?_
          obtain ⟨o19, h⟩ := h
          obtain ⟨o20, h⟩ := h
          refine y_iald 44 Y dX6_look_44 rfl rfl o19 o20 (fun _ => ?_)
          refine y_if 45 56 Y dX6_look_45 rfl rfl (fun c => ?_) (fun c => ?_)
          · replace h := h.1 c
            refine y_iload_n 56 Y dX6_look_56 rfl ?_
            refine y_if 57 97 Y dX6_look_57 rfl rfl (fun c => ?_) (fun c => ?_)
            · replace h := h.1 c
              refine y_aload_n 97 Y dX6_look_97 rfl ?_
              refine y_geta 98 Y 47 dX6_look_98 rfl rfl ?_
              refine y_iload_n 101 Y dX6_look_101 rfl ?_
              refine y_bipush 102 Y dX6_look_102 rfl ?_
              obtain ⟨o21, h⟩ := h
              refine y_isub 104 Y dX6_look_104 o21 ?_
              obtain ⟨o22, h⟩ := h
              obtain ⟨o23, h⟩ := h
              refine y_bald 105 Y dX6_look_105 rfl rfl o22 o23 (fun _ => ?_)
              refine y_if 106 116 Y dX6_look_106 rfl rfl (fun c => ?_) (fun c => ?_)
              · replace h := h.1 c
                refine y_iconst 116 Y dX6_look_116 rfl ?_
                exact y_iret 117 Y dX6_look_117 rfl h
              · replace h := h.2 c
                refine y_iload_n 109 Y dX6_look_109 rfl ?_
                refine y_bipush 110 Y dX6_look_110 rfl ?_
                refine y_isub 112 Y dX6_look_112 o21 ?_
                refine y_goto 113 117 Y dX6_look_113 rfl rfl ?_
                exact y_iret 117 Y dX6_look_117 rfl h
            · replace h := h.2 c
              refine y_iload_n 60 Y dX6_look_60 rfl ?_
              refine y_bipush 61 Y dX6_look_61 rfl ?_
              refine y_bipush 63 Y dX6_look_63 rfl ?_
              refine y_calls 65 Y (as := [mi l1, mi 120, mi 122]) [] dX6_look_65 rfl rfl rfl rfl rfl h (fun r S24 hq hI hr => ?_)
              obtain ⟨v25, rfl, h⟩ := Qi_ok hq
              replace h := h hI (mokI (hr _ rfl))
              clear hq hr
              refine y_if 68 97 Y dX6_look_68 rfl rfl (fun c => ?_) (fun c => ?_)
              · replace h := h.1 c
                refine y_aload_n 97 Y dX6_look_97 rfl ?_
                refine y_geta 98 Y 47 dX6_look_98 rfl rfl ?_
                refine y_iload_n 101 Y dX6_look_101 rfl ?_
                refine y_bipush 102 Y dX6_look_102 rfl ?_
                obtain ⟨o26, h⟩ := h
                refine y_isub 104 Y dX6_look_104 o26 ?_
                obtain ⟨o27, h⟩ := h
                obtain ⟨o28, h⟩ := h
                refine y_bald 105 Y dX6_look_105 rfl rfl o27 o28 (fun _ => ?_)
                refine y_if 106 116 Y dX6_look_106 rfl rfl (fun c => ?_) (fun c => ?_)
                · replace h := h.1 c
                  refine y_iconst 116 Y dX6_look_116 rfl ?_
                  exact y_iret 117 Y dX6_look_117 rfl h
                · replace h := h.2 c
                  refine y_iload_n 109 Y dX6_look_109 rfl ?_
                  refine y_bipush 110 Y dX6_look_110 rfl ?_
                  refine y_isub 112 Y dX6_look_112 o26 ?_
                  refine y_goto 113 117 Y dX6_look_113 rfl rfl ?_
                  exact y_iret 117 Y dX6_look_117 rfl h
              · replace h := h.2 c
                refine y_iload_n 71 Y dX6_look_71 rfl ?_
                refine y_bipush 72 Y dX6_look_72 rfl ?_
                obtain ⟨o29, h⟩ := h
                refine y_isub 74 Y dX6_look_74 o29 ?_
                refine y_aload_n 75 Y dX6_look_75 rfl ?_
                refine y_geta 76 Y 58 dX6_look_76 rfl rfl ?_
                refine y_iload_n 79 Y dX6_look_79 rfl ?_
                refine y_iald 80 Y dX6_look_80 rfl rfl o19 o20 (fun _ => ?_)
                refine y_icmp 81 97 Y dX6_look_81 rfl rfl (fun c => ?_) (fun c => ?_)
                · replace h := h.1 c
                  refine y_aload_n 97 Y dX6_look_97 rfl ?_
                  refine y_geta 98 Y 47 dX6_look_98 rfl rfl ?_
                  refine y_iload_n 101 Y dX6_look_101 rfl ?_
                  refine y_bipush 102 Y dX6_look_102 rfl ?_
                  obtain ⟨o30, h⟩ := h
                  refine y_isub 104 Y dX6_look_104 o30 ?_
                  obtain ⟨o31, h⟩ := h
                  obtain ⟨o32, h⟩ := h
                  refine y_bald 105 Y dX6_look_105 rfl rfl o31 o32 (fun _ => ?_)
                  refine y_if 106 116 Y dX6_look_106 rfl rfl (fun c => ?_) (fun c => ?_)
                  · replace h := h.1 c
                    refine y_iconst 116 Y dX6_look_116 rfl ?_
                    exact y_iret 117 Y dX6_look_117 rfl h
                  · replace h := h.2 c
                    refine y_iload_n 109 Y dX6_look_109 rfl ?_
                    refine y_bipush 110 Y dX6_look_110 rfl ?_
                    refine y_isub 112 Y dX6_look_112 o30 ?_
                    refine y_goto 113 117 Y dX6_look_113 rfl rfl ?_
                    exact y_iret 117 Y dX6_look_117 rfl h
                · replace h := h.2 c
                  refine y_sipush 84 Y dX6_look_84 rfl ?_
                  refine y_iconst 87 Y dX6_look_87 rfl ?_
                  refine y_iload_n 88 Y dX6_look_88 rfl ?_
                  obtain ⟨o33, h⟩ := h
                  refine y_imul 89 Y dX6_look_89 o33 ?_
                  obtain ⟨o34, h⟩ := h
                  refine y_iadd 90 Y dX6_look_90 o34 ?_
                  refine y_iload_n 91 Y dX6_look_91 rfl ?_
                  obtain ⟨o35, h⟩ := h
                  refine y_iadd 92 Y dX6_look_92 o35 ?_
                  refine y_bipush 93 Y dX6_look_93 rfl ?_
                  obtain ⟨o36, h⟩ := h
                  refine y_isub 95 Y dX6_look_95 o36 ?_
                  exact y_iret 96 Y dX6_look_96 rfl h
          · replace h := h.2 c
            refine y_sipush 48 Y dX6_look_48 rfl ?_
            refine y_iconst 51 Y dX6_look_51 rfl ?_
            refine y_iload_n 52 Y dX6_look_52 rfl ?_
            obtain ⟨o37, h⟩ := h
            refine y_imul 53 Y dX6_look_53 o37 ?_
            obtain ⟨o38, h⟩ := h
            refine y_iadd 54 Y dX6_look_54 o38 ?_
            exact y_iret 55 Y dX6_look_55 rfl h
      · replace h := h.2 c
        refine y_aload_n 6 Y dX6_look_6 rfl ?_
        refine y_geta 7 Y 58 dX6_look_7 rfl rfl ?_
        refine y_iload_n 10 Y dX6_look_10 rfl ?_
        obtain ⟨o39, h⟩ := h
        obtain ⟨o40, h⟩ := h
        refine y_iald 11 Y dX6_look_11 rfl rfl o39 o40 (fun _ => ?_)
        refine y_if 12 35 Y dX6_look_12 rfl rfl (fun c => ?_) (fun c => ?_)
        · replace h := h.1 c
          refine y_iload_n 35 Y dX6_look_35 rfl ?_
          refine y_if 36 56 Y dX6_look_36 rfl rfl (fun c => ?_) (fun c => ?_)
          · replace h := h.1 c
            refine y_iload_n 56 Y dX6_look_56 rfl ?_
            refine y_if 57 97 Y dX6_look_57 rfl rfl (fun c => ?_) (fun c => ?_)
            · replace h := h.1 c
              refine y_aload_n 97 Y dX6_look_97 rfl ?_
              refine y_geta 98 Y 47 dX6_look_98 rfl rfl ?_
              refine y_iload_n 101 Y dX6_look_101 rfl ?_
              refine y_bipush 102 Y dX6_look_102 rfl ?_
              obtain ⟨o41, h⟩ := h
              refine y_isub 104 Y dX6_look_104 o41 ?_
              obtain ⟨o42, h⟩ := h
              obtain ⟨o43, h⟩ := h
              refine y_bald 105 Y dX6_look_105 rfl rfl o42 o43 (fun _ => ?_)
              refine y_if 106 116 Y dX6_look_106 rfl rfl (fun c => ?_) (fun c => ?_)
              · replace h := h.1 c
                refine y_iconst 116 Y dX6_look_116 rfl ?_
                exact y_iret 117 Y dX6_look_117 rfl h
              · replace h := h.2 c
                refine y_iload_n 109 Y dX6_look_109 rfl ?_
                refine y_bipush 110 Y dX6_look_110 rfl ?_
                refine y_isub 112 Y dX6_look_112 o41 ?_
                refine y_goto 113 117 Y dX6_look_113 rfl rfl ?_
                exact y_iret 117 Y dX6_look_117 rfl h
            · replace h := h.2 c
              refine y_iload_n 60 Y dX6_look_60 rfl ?_
              refine y_bipush 61 Y dX6_look_61 rfl ?_
              refine y_bipush 63 Y dX6_look_63 rfl ?_
              refine y_calls 65 Y (as := [mi l1, mi 120, mi 122]) [] dX6_look_65 rfl rfl rfl rfl rfl h (fun r S44 hq hI hr => ?_)
              obtain ⟨v45, rfl, h⟩ := Qi_ok hq
              replace h := h hI (mokI (hr _ rfl))
              clear hq hr
              refine y_if 68 97 Y dX6_look_68 rfl rfl (fun c => ?_) (fun c => ?_)
              · replace h := h.1 c
                refine y_aload_n 97 Y dX6_look_97 rfl ?_
                refine y_geta 98 Y 47 dX6_look_98 rfl rfl ?_
                refine y_iload_n 101 Y dX6_look_101 rfl ?_
                refine y_bipush 102 Y dX6_look_102 rfl ?_
                obtain ⟨o46, h⟩ := h
                refine y_isub 104 Y dX6_look_104 o46 ?_
                obtain ⟨o47, h⟩ := h
                obtain ⟨o48, h⟩ := h
                refine y_bald 105 Y dX6_look_105 rfl rfl o47 o48 (fun _ => ?_)
                refine y_if 106 116 Y dX6_look_106 rfl rfl (fun c => ?_) (fun c => ?_)
                · replace h := h.1 c
                  refine y_iconst 116 Y dX6_look_116 rfl ?_
                  exact y_iret 117 Y dX6_look_117 rfl h
                · replace h := h.2 c
                  refine y_iload_n 109 Y dX6_look_109 rfl ?_
                  refine y_bipush 110 Y dX6_look_110 rfl ?_
                  refine y_isub 112 Y dX6_look_112 o46 ?_
                  refine y_goto 113 117 Y dX6_look_113 rfl rfl ?_
                  exact y_iret 117 Y dX6_look_117 rfl h
              · replace h := h.2 c
                refine y_iload_n 71 Y dX6_look_71 rfl ?_
                refine y_bipush 72 Y dX6_look_72 rfl ?_
                obtain ⟨o49, h⟩ := h
                refine y_isub 74 Y dX6_look_74 o49 ?_
                refine y_aload_n 75 Y dX6_look_75 rfl ?_
                refine y_geta 76 Y 58 dX6_look_76 rfl rfl ?_
                refine y_iload_n 79 Y dX6_look_79 rfl ?_
                refine y_iald 80 Y dX6_look_80 rfl rfl o39 o40 (fun _ => ?_)
                refine y_icmp 81 97 Y dX6_look_81 rfl rfl (fun c => ?_) (fun c => ?_)
                · replace h := h.1 c
                  refine y_aload_n 97 Y dX6_look_97 rfl ?_
                  refine y_geta 98 Y 47 dX6_look_98 rfl rfl ?_
                  refine y_iload_n 101 Y dX6_look_101 rfl ?_
                  refine y_bipush 102 Y dX6_look_102 rfl ?_
                  obtain ⟨o50, h⟩ := h
                  refine y_isub 104 Y dX6_look_104 o50 ?_
                  obtain ⟨o51, h⟩ := h
                  obtain ⟨o52, h⟩ := h
                  refine y_bald 105 Y dX6_look_105 rfl rfl o51 o52 (fun _ => ?_)
                  refine y_if 106 116 Y dX6_look_106 rfl rfl (fun c => ?_) (fun c => ?_)
                  · replace h := h.1 c
                    refine y_iconst 116 Y dX6_look_116 rfl ?_
                    exact y_iret 117 Y dX6_look_117 rfl h
                  · replace h := h.2 c
                    refine y_iload_n 109 Y dX6_look_109 rfl ?_
                    refine y_bipush 110 Y dX6_look_110 rfl ?_
                    refine y_isub 112 Y dX6_look_112 o50 ?_
                    refine y_goto 113 117 Y dX6_look_113 rfl rfl ?_
                    exact y_iret 117 Y dX6_look_117 rfl h
                · replace h := h.2 c
                  refine y_sipush 84 Y dX6_look_84 rfl ?_
                  refine y_iconst 87 Y dX6_look_87 rfl ?_
                  refine y_iload_n 88 Y dX6_look_88 rfl ?_
                  obtain ⟨o53, h⟩ := h
                  refine y_imul 89 Y dX6_look_89 o53 ?_
                  obtain ⟨o54, h⟩ := h
                  refine y_iadd 90 Y dX6_look_90 o54 ?_
                  refine y_iload_n 91 Y dX6_look_91 rfl ?_
                  obtain ⟨o55, h⟩ := h
                  refine y_iadd 92 Y dX6_look_92 o55 ?_
                  refine y_bipush 93 Y dX6_look_93 rfl ?_
                  obtain ⟨o56, h⟩ := h
                  refine y_isub 95 Y dX6_look_95 o56 ?_
                  exact y_iret 96 Y dX6_look_96 rfl h
          · replace h := h.2 c
            refine y_aload_n 39 Y dX6_look_39 rfl ?_
            refine y_geta 40 Y 58 dX6_look_40 rfl rfl ?_
            refine y_iload_n 43 Y dX6_look_43 rfl ?_
            refine y_iald 44 Y dX6_look_44 rfl rfl o39 o40 (fun _ => ?_)
            refine y_if 45 56 Y dX6_look_45 rfl rfl (fun c => ?_) (fun c => ?_)
            · replace h := h.1 c
              refine y_iload_n 56 Y dX6_look_56 rfl ?_
              refine y_if 57 97 Y dX6_look_57 rfl rfl (fun c => ?_) (fun c => ?_)
              · replace h := h.1 c
                refine y_aload_n 97 Y dX6_look_97 rfl ?_
                refine y_geta 98 Y 47 dX6_look_98 rfl rfl ?_
                refine y_iload_n 101 Y dX6_look_101 rfl ?_
                refine y_bipush 102 Y dX6_look_102 rfl ?_
                obtain ⟨o57, h⟩ := h
                refine y_isub 104 Y dX6_look_104 o57 ?_
                obtain ⟨o58, h⟩ := h
                obtain ⟨o59, h⟩ := h
                refine y_bald 105 Y dX6_look_105 rfl rfl o58 o59 (fun _ => ?_)
                refine y_if 106 116 Y dX6_look_106 rfl rfl (fun c => ?_) (fun c => ?_)
                · replace h := h.1 c
                  refine y_iconst 116 Y dX6_look_116 rfl ?_
                  exact y_iret 117 Y dX6_look_117 rfl h
                · replace h := h.2 c
                  refine y_iload_n 109 Y dX6_look_109 rfl ?_
                  refine y_bipush 110 Y dX6_look_110 rfl ?_
                  refine y_isub 112 Y dX6_look_112 o57 ?_
                  refine y_goto 113 117 Y dX6_look_113 rfl rfl ?_
                  exact y_iret 117 Y dX6_look_117 rfl h
              · replace h := h.2 c
                refine y_iload_n 60 Y dX6_look_60 rfl ?_
                refine y_bipush 61 Y dX6_look_61 rfl ?_
                refine y_bipush 63 Y dX6_look_63 rfl ?_
                refine y_calls 65 Y (as := [mi l1, mi 120, mi 122]) [] dX6_look_65 rfl rfl rfl rfl rfl h (fun r S60 hq hI hr => ?_)
                obtain ⟨v61, rfl, h⟩ := Qi_ok hq
                replace h := h hI (mokI (hr _ rfl))
                clear hq hr
                refine y_if 68 97 Y dX6_look_68 rfl rfl (fun c => ?_) (fun c => ?_)
                · replace h := h.1 c
                  refine y_aload_n 97 Y dX6_look_97 rfl ?_
                  refine y_geta 98 Y 47 dX6_look_98 rfl rfl ?_
                  refine y_iload_n 101 Y dX6_look_101 rfl ?_
                  refine y_bipush 102 Y dX6_look_102 rfl ?_
                  obtain ⟨o62, h⟩ := h
                  refine y_isub 104 Y dX6_look_104 o62 ?_
                  obtain ⟨o63, h⟩ := h
                  obtain ⟨o64, h⟩ := h
                  refine y_bald 105 Y dX6_look_105 rfl rfl o63 o64 (fun _ => ?_)
                  refine y_if 106 116 Y dX6_look_106 rfl rfl (fun c => ?_) (fun c => ?_)
                  · replace h := h.1 c
                    refine y_iconst 116 Y dX6_look_116 rfl ?_
                    exact y_iret 117 Y dX6_look_117 rfl h
                  · replace h := h.2 c
                    refine y_iload_n 109 Y dX6_look_109 rfl ?_
                    refine y_bipush 110 Y dX6_look_110 rfl ?_
                    refine y_isub 112 Y dX6_look_112 o62 ?_
                    refine y_goto 113 117 Y dX6_look_113 rfl rfl ?_
                    exact y_iret 117 Y dX6_look_117 rfl h
                · replace h := h.2 c
                  refine y_iload_n 71 Y dX6_look_71 rfl ?_
                  refine y_bipush 72 Y dX6_look_72 rfl ?_
                  obtain ⟨o65, h⟩ := h
                  refine y_isub 74 Y dX6_look_74 o65 ?_
                  refine y_aload_n 75 Y dX6_look_75 rfl ?_
                  refine y_geta 76 Y 58 dX6_look_76 rfl rfl ?_
                  refine y_iload_n 79 Y dX6_look_79 rfl ?_
                  refine y_iald 80 Y dX6_look_80 rfl rfl o39 o40 (fun _ => ?_)
                  refine y_icmp 81 97 Y dX6_look_81 rfl rfl (fun c => ?_) (fun c => ?_)
                  · replace h := h.1 c
                    refine y_aload_n 97 Y dX6_look_97 rfl ?_
                    refine y_geta 98 Y 47 dX6_look_98 rfl rfl ?_
                    refine y_iload_n 101 Y dX6_look_101 rfl ?_
                    refine y_bipush 102 Y dX6_look_102 rfl ?_
                    obtain ⟨o66, h⟩ := h
                    refine y_isub 104 Y dX6_look_104 o66 ?_
                    obtain ⟨o67, h⟩ := h
                    obtain ⟨o68, h⟩ := h
                    refine y_bald 105 Y dX6_look_105 rfl rfl o67 o68 (fun _ => ?_)
                    refine y_if 106 116 Y dX6_look_106 rfl rfl (fun c => ?_) (fun c => ?_)
                    · replace h := h.1 c
                      refine y_iconst 116 Y dX6_look_116 rfl ?_
                      exact y_iret 117 Y dX6_look_117 rfl h
                    · replace h := h.2 c
                      refine y_iload_n 109 Y dX6_look_109 rfl ?_
                      refine y_bipush 110 Y dX6_look_110 rfl ?_
                      refine y_isub 112 Y dX6_look_112 o66 ?_
                      refine y_goto 113 117 Y dX6_look_113 rfl rfl ?_
                      exact y_iret 117 Y dX6_look_117 rfl h
                  · replace h := h.2 c
                    refine y_sipush 84 Y dX6_look_84 rfl ?_
                    refine y_iconst 87 Y dX6_look_87 rfl ?_
                    refine y_iload_n 88 Y dX6_look_88 rfl ?_
                    obtain ⟨o69, h⟩ := h
                    refine y_imul 89 Y dX6_look_89 o69 ?_
                    obtain ⟨o70, h⟩ := h
                    refine y_iadd 90 Y dX6_look_90 o70 ?_
                    refine y_iload_n 91 Y dX6_look_91 rfl ?_
                    obtain ⟨o71, h⟩ := h
                    refine y_iadd 92 Y dX6_look_92 o71 ?_
                    refine y_bipush 93 Y dX6_look_93 rfl ?_
                    obtain ⟨o72, h⟩ := h
                    refine y_isub 95 Y dX6_look_95 o72 ?_
                    exact y_iret 96 Y dX6_look_96 rfl h
            · replace h := h.2 c
              refine y_sipush 48 Y dX6_look_48 rfl ?_
              refine y_iconst 51 Y dX6_look_51 rfl ?_
              refine y_iload_n 52 Y dX6_look_52 rfl ?_
              obtain ⟨o73, h⟩ := h
              refine y_imul 53 Y dX6_look_53 o73 ?_
              obtain ⟨o74, h⟩ := h
              refine y_iadd 54 Y dX6_look_54 o74 ?_
              exact y_iret 55 Y dX6_look_55 rfl h
        · replace h := h.2 c
          refine y_aload_n 15 Y dX6_look_15 rfl ?_
          refine y_geta 16 Y 57 dX6_look_16 rfl rfl ?_
          refine y_iload_n 19 Y dX6_look_19 rfl ?_
          refine y_iald 20 Y dX6_look_20 rfl rfl o39 o40 (fun _ => ?_)
          refine y_iload_n 21 Y dX6_look_21 rfl ?_
          refine y_icmp 22 35 Y dX6_look_22 rfl rfl (fun c => ?_) (fun c => ?_)
          · replace h := h.1 c
            refine y_iload_n 35 Y dX6_look_35 rfl ?_
            refine y_if 36 56 Y dX6_look_36 rfl rfl (fun c => ?_) (fun c => ?_)
            · replace h := h.1 c
              refine y_iload_n 56 Y dX6_look_56 rfl ?_
              refine y_if 57 97 Y dX6_look_57 rfl rfl (fun c => ?_) (fun c => ?_)
              · replace h := h.1 c
                refine y_aload_n 97 Y dX6_look_97 rfl ?_
                refine y_geta 98 Y 47 dX6_look_98 rfl rfl ?_
                refine y_iload_n 101 Y dX6_look_101 rfl ?_
                refine y_bipush 102 Y dX6_look_102 rfl ?_
                obtain ⟨o75, h⟩ := h
                refine y_isub 104 Y dX6_look_104 o75 ?_
                obtain ⟨o76, h⟩ := h
                obtain ⟨o77, h⟩ := h
                refine y_bald 105 Y dX6_look_105 rfl rfl o76 o77 (fun _ => ?_)
                refine y_if 106 116 Y dX6_look_106 rfl rfl (fun c => ?_) (fun c => ?_)
                · replace h := h.1 c
                  refine y_iconst 116 Y dX6_look_116 rfl ?_
                  exact y_iret 117 Y dX6_look_117 rfl h
                · replace h := h.2 c
                  refine y_iload_n 109 Y dX6_look_109 rfl ?_
                  refine y_bipush 110 Y dX6_look_110 rfl ?_
                  refine y_isub 112 Y dX6_look_112 o75 ?_
                  refine y_goto 113 117 Y dX6_look_113 rfl rfl ?_
                  exact y_iret 117 Y dX6_look_117 rfl h
              · replace h := h.2 c
                refine y_iload_n 60 Y dX6_look_60 rfl ?_
                refine y_bipush 61 Y dX6_look_61 rfl ?_
                refine y_bipush 63 Y dX6_look_63 rfl ?_
                refine y_calls 65 Y (as := [mi l1, mi 120, mi 122]) [] dX6_look_65 rfl rfl rfl rfl rfl h (fun r S78 hq hI hr => ?_)
                obtain ⟨v79, rfl, h⟩ := Qi_ok hq
                replace h := h hI (mokI (hr _ rfl))
                clear hq hr
                refine y_if 68 97 Y dX6_look_68 rfl rfl (fun c => ?_) (fun c => ?_)
                · replace h := h.1 c
                  refine y_aload_n 97 Y dX6_look_97 rfl ?_
                  refine y_geta 98 Y 47 dX6_look_98 rfl rfl ?_
                  refine y_iload_n 101 Y dX6_look_101 rfl ?_
                  refine y_bipush 102 Y dX6_look_102 rfl ?_
                  obtain ⟨o80, h⟩ := h
                  refine y_isub 104 Y dX6_look_104 o80 ?_
                  obtain ⟨o81, h⟩ := h
                  obtain ⟨o82, h⟩ := h
                  refine y_bald 105 Y dX6_look_105 rfl rfl o81 o82 (fun _ => ?_)
                  refine y_if 106 116 Y dX6_look_106 rfl rfl (fun c => ?_) (fun c => ?_)
                  · replace h := h.1 c
                    refine y_iconst 116 Y dX6_look_116 rfl ?_
                    exact y_iret 117 Y dX6_look_117 rfl h
                  · replace h := h.2 c
                    refine y_iload_n 109 Y dX6_look_109 rfl ?_
                    refine y_bipush 110 Y dX6_look_110 rfl ?_
                    refine y_isub 112 Y dX6_look_112 o80 ?_
                    refine y_goto 113 117 Y dX6_look_113 rfl rfl ?_
                    exact y_iret 117 Y dX6_look_117 rfl h
                · replace h := h.2 c
                  refine y_iload_n 71 Y dX6_look_71 rfl ?_
                  refine y_bipush 72 Y dX6_look_72 rfl ?_
                  obtain ⟨o83, h⟩ := h
                  refine y_isub 74 Y dX6_look_74 o83 ?_
                  refine y_aload_n 75 Y dX6_look_75 rfl ?_
                  refine y_geta 76 Y 58 dX6_look_76 rfl rfl ?_
                  refine y_iload_n 79 Y dX6_look_79 rfl ?_
                  refine y_iald 80 Y dX6_look_80 rfl rfl o39 o40 (fun _ => ?_)
                  refine y_icmp 81 97 Y dX6_look_81 rfl rfl (fun c => ?_) (fun c => ?_)
                  · replace h := h.1 c
                    refine y_aload_n 97 Y dX6_look_97 rfl ?_
                    refine y_geta 98 Y 47 dX6_look_98 rfl rfl ?_
                    refine y_iload_n 101 Y dX6_look_101 rfl ?_
                    refine y_bipush 102 Y dX6_look_102 rfl ?_
                    obtain ⟨o84, h⟩ := h
                    refine y_isub 104 Y dX6_look_104 o84 ?_
                    obtain ⟨o85, h⟩ := h
                    obtain ⟨o86, h⟩ := h
                    refine y_bald 105 Y dX6_look_105 rfl rfl o85 o86 (fun _ => ?_)
                    refine y_if 106 116 Y dX6_look_106 rfl rfl (fun c => ?_) (fun c => ?_)
                    · replace h := h.1 c
                      refine y_iconst 116 Y dX6_look_116 rfl ?_
                      exact y_iret 117 Y dX6_look_117 rfl h
                    · replace h := h.2 c
                      refine y_iload_n 109 Y dX6_look_109 rfl ?_
                      refine y_bipush 110 Y dX6_look_110 rfl ?_
                      refine y_isub 112 Y dX6_look_112 o84 ?_
                      refine y_goto 113 117 Y dX6_look_113 rfl rfl ?_
                      exact y_iret 117 Y dX6_look_117 rfl h
                  · replace h := h.2 c
                    refine y_sipush 84 Y dX6_look_84 rfl ?_
                    refine y_iconst 87 Y dX6_look_87 rfl ?_
                    refine y_iload_n 88 Y dX6_look_88 rfl ?_
                    obtain ⟨o87, h⟩ := h
                    refine y_imul 89 Y dX6_look_89 o87 ?_
                    obtain ⟨o88, h⟩ := h
                    refine y_iadd 90 Y dX6_look_90 o88 ?_
                    refine y_iload_n 91 Y dX6_look_91 rfl ?_
                    obtain ⟨o89, h⟩ := h
                    refine y_iadd 92 Y dX6_look_92 o89 ?_
                    refine y_bipush 93 Y dX6_look_93 rfl ?_
                    obtain ⟨o90, h⟩ := h
                    refine y_isub 95 Y dX6_look_95 o90 ?_
                    exact y_iret 96 Y dX6_look_96 rfl h
            · replace h := h.2 c
              refine y_aload_n 39 Y dX6_look_39 rfl ?_
              refine y_geta 40 Y 58 dX6_look_40 rfl rfl ?_
              refine y_iload_n 43 Y dX6_look_43 rfl ?_
              refine y_iald 44 Y dX6_look_44 rfl rfl o39 o40 (fun _ => ?_)
              refine y_if 45 56 Y dX6_look_45 rfl rfl (fun c => ?_) (fun c => ?_)
              · replace h := h.1 c
                refine y_iload_n 56 Y dX6_look_56 rfl ?_
                refine y_if 57 97 Y dX6_look_57 rfl rfl (fun c => ?_) (fun c => ?_)
                · replace h := h.1 c
                  refine y_aload_n 97 Y dX6_look_97 rfl ?_
                  refine y_geta 98 Y 47 dX6_look_98 rfl rfl ?_
                  refine y_iload_n 101 Y dX6_look_101 rfl ?_
                  refine y_bipush 102 Y dX6_look_102 rfl ?_
                  obtain ⟨o91, h⟩ := h
                  refine y_isub 104 Y dX6_look_104 o91 ?_
                  obtain ⟨o92, h⟩ := h
                  obtain ⟨o93, h⟩ := h
                  refine y_bald 105 Y dX6_look_105 rfl rfl o92 o93 (fun _ => ?_)
                  refine y_if 106 116 Y dX6_look_106 rfl rfl (fun c => ?_) (fun c => ?_)
                  · replace h := h.1 c
                    refine y_iconst 116 Y dX6_look_116 rfl ?_
                    exact y_iret 117 Y dX6_look_117 rfl h
                  · replace h := h.2 c
                    refine y_iload_n 109 Y dX6_look_109 rfl ?_
                    refine y_bipush 110 Y dX6_look_110 rfl ?_
                    refine y_isub 112 Y dX6_look_112 o91 ?_
                    refine y_goto 113 117 Y dX6_look_113 rfl rfl ?_
                    exact y_iret 117 Y dX6_look_117 rfl h
                · replace h := h.2 c
                  refine y_iload_n 60 Y dX6_look_60 rfl ?_
                  refine y_bipush 61 Y dX6_look_61 rfl ?_
                  refine y_bipush 63 Y dX6_look_63 rfl ?_
                  refine y_calls 65 Y (as := [mi l1, mi 120, mi 122]) [] dX6_look_65 rfl rfl rfl rfl rfl h (fun r S94 hq hI hr => ?_)
                  obtain ⟨v95, rfl, h⟩ := Qi_ok hq
                  replace h := h hI (mokI (hr _ rfl))
                  clear hq hr
                  refine y_if 68 97 Y dX6_look_68 rfl rfl (fun c => ?_) (fun c => ?_)
                  · replace h := h.1 c
                    refine y_aload_n 97 Y dX6_look_97 rfl ?_
                    refine y_geta 98 Y 47 dX6_look_98 rfl rfl ?_
                    refine y_iload_n 101 Y dX6_look_101 rfl ?_
                    refine y_bipush 102 Y dX6_look_102 rfl ?_
                    obtain ⟨o96, h⟩ := h
                    refine y_isub 104 Y dX6_look_104 o96 ?_
                    obtain ⟨o97, h⟩ := h
                    obtain ⟨o98, h⟩ := h
                    refine y_bald 105 Y dX6_look_105 rfl rfl o97 o98 (fun _ => ?_)
                    refine y_if 106 116 Y dX6_look_106 rfl rfl (fun c => ?_) (fun c => ?_)
                    · replace h := h.1 c
                      refine y_iconst 116 Y dX6_look_116 rfl ?_
                      exact y_iret 117 Y dX6_look_117 rfl h
                    · replace h := h.2 c
                      refine y_iload_n 109 Y dX6_look_109 rfl ?_
                      refine y_bipush 110 Y dX6_look_110 rfl ?_
                      refine y_isub 112 Y dX6_look_112 o96 ?_
                      refine y_goto 113 117 Y dX6_look_113 rfl rfl ?_
                      exact y_iret 117 Y dX6_look_117 rfl h
                  · replace h := h.2 c
                    refine y_iload_n 71 Y dX6_look_71 rfl ?_
                    refine y_bipush 72 Y dX6_look_72 rfl ?_
                    obtain ⟨o99, h⟩ := h
                    refine y_isub 74 Y dX6_look_74 o99 ?_
                    refine y_aload_n 75 Y dX6_look_75 rfl ?_
                    refine y_geta 76 Y 58 dX6_look_76 rfl rfl ?_
                    refine y_iload_n 79 Y dX6_look_79 rfl ?_
                    refine y_iald 80 Y dX6_look_80 rfl rfl o39 o40 (fun _ => ?_)
                    refine y_icmp 81 97 Y dX6_look_81 rfl rfl (fun c => ?_) (fun c => ?_)
                    · replace h := h.1 c
                      refine y_aload_n 97 Y dX6_look_97 rfl ?_
                      refine y_geta 98 Y 47 dX6_look_98 rfl rfl ?_
                      refine y_iload_n 101 Y dX6_look_101 rfl ?_
                      refine y_bipush 102 Y dX6_look_102 rfl ?_
                      obtain ⟨o100, h⟩ := h
                      refine y_isub 104 Y dX6_look_104 o100 ?_
                      obtain ⟨o101, h⟩ := h
                      obtain ⟨o102, h⟩ := h
                      refine y_bald 105 Y dX6_look_105 rfl rfl o101 o102 (fun _ => ?_)
                      refine y_if 106 116 Y dX6_look_106 rfl rfl (fun c => ?_) (fun c => ?_)
                      · replace h := h.1 c
                        refine y_iconst 116 Y dX6_look_116 rfl ?_
                        exact y_iret 117 Y dX6_look_117 rfl h
                      · replace h := h.2 c
                        refine y_iload_n 109 Y dX6_look_109 rfl ?_
                        refine y_bipush 110 Y dX6_look_110 rfl ?_
                        refine y_isub 112 Y dX6_look_112 o100 ?_
                        refine y_goto 113 117 Y dX6_look_113 rfl rfl ?_
                        exact y_iret 117 Y dX6_look_117 rfl h
                    · replace h := h.2 c
                      refine y_sipush 84 Y dX6_look_84 rfl ?_
                      refine y_iconst 87 Y dX6_look_87 rfl ?_
                      refine y_iload_n 88 Y dX6_look_88 rfl ?_
                      obtain ⟨o103, h⟩ := h
                      refine y_imul 89 Y dX6_look_89 o103 ?_
                      obtain ⟨o104, h⟩ := h
                      refine y_iadd 90 Y dX6_look_90 o104 ?_
                      refine y_iload_n 91 Y dX6_look_91 rfl ?_
                      obtain ⟨o105, h⟩ := h
                      refine y_iadd 92 Y dX6_look_92 o105 ?_
                      refine y_bipush 93 Y dX6_look_93 rfl ?_
                      obtain ⟨o106, h⟩ := h
                      refine y_isub 95 Y dX6_look_95 o106 ?_
                      exact y_iret 96 Y dX6_look_96 rfl h
              · replace h := h.2 c
                refine y_sipush 48 Y dX6_look_48 rfl ?_
                refine y_iconst 51 Y dX6_look_51 rfl ?_
                refine y_iload_n 52 Y dX6_look_52 rfl ?_
                obtain ⟨o107, h⟩ := h
                refine y_imul 53 Y dX6_look_53 o107 ?_
                obtain ⟨o108, h⟩ := h
                refine y_iadd 54 Y dX6_look_54 o108 ?_
                exact y_iret 55 Y dX6_look_55 rfl h
          · replace h := h.2 c
            refine y_aload_n 25 Y dX6_look_25 rfl ?_
            refine y_geta 26 Y 59 dX6_look_26 rfl rfl ?_
            refine y_iload_n 29 Y dX6_look_29 rfl ?_
            refine y_iald 30 Y dX6_look_30 rfl rfl o39 o40 (fun _ => ?_)
            refine y_istore_n 31 Y [some mt, some (mi l1), none, some (mi (T 59 l3))] dX6_look_31 rfl rfl ?_
            refine y_goto 32 2 Y dX6_look_32 rfl rfl ?_
            obtain ⟨n1, hn, h⟩ := h
            exact Wk 2 _ [some mt, some (mi l1), none, some (mi (T 59 l3))] _ _ ⟨rfl, ⟨rfl, ⟨rfl, trivial⟩⟩⟩ (hIc n1 _ _ _ _ hn ((⟨rfl, _, _, rfl, rfl, h⟩)))
set_option maxHeartbeats 4000000 in
theorem of_meaningAt {g : mG} {S : mS} {a1 : Int} {Qp : Option mV → mS → Prop}
    (hE : mI S → (-2147483648 ≤ a1 ∧ a1 ≤ 2147483647) → (0 ≤ a1) ∧ (a1 < 20300) ∧ (((S 4 a1) ≠ 3) → Qp (some (mi (-1))) S) ∧ (¬ ((S 4 a1) ≠ 3) → CX_signOf g [mi (S 5 a1)] S (Qi fun v4 S3 => mI S3 → (-2147483648 ≤ v4 ∧ v4 ≤ 2147483647) → (-2147483648 ≤ ((3 * v4) : Int) ∧ (3 * v4) ≤ 2147483647) ∧ (-2147483648 ≤ (((3 * v4) + (S3 6 a1)) : Int) ∧ ((3 * v4) + (S3 6 a1)) ≤ 2147483647) ∧ (0 ≤ ((3 * v4) + (S3 6 a1))) ∧ (((3 * v4) + (S3 6 a1)) < 48) ∧ Qp (some (mi (S3 17 ((3 * v4) + (S3 6 a1))))) S3)))
    : CX_meaningAt g [mt, mi a1] S Qp := by
  refine cm_y ⟨by decide, rfl⟩ (by simp [mcat]) (by simp) (fun _ _ _ _ _ => False) ?_ ?_
  · intro ha hS P Y Wk hIc
    have h := hE hS (mokI (ha (mi a1) (by simp)))
    clear hE ha
    refine y_aload_n 0 Y dX6_meaningAt_0 rfl ?_
    refine y_geta 1 Y 4 dX6_meaningAt_1 rfl rfl ?_
    refine y_iload_n 4 Y dX6_meaningAt_4 rfl ?_
    obtain ⟨o1, h⟩ := h
    obtain ⟨o2, h⟩ := h
    refine y_iald 5 Y dX6_meaningAt_5 rfl rfl o1 o2 (fun _ => ?_)
    refine y_iconst 6 Y dX6_meaningAt_6 rfl ?_
    refine y_icmp 7 36 Y dX6_meaningAt_7 rfl rfl (fun c => ?_) (fun c => ?_)
    · replace h := h.1 c
      refine y_iconst 36 Y dX6_meaningAt_36 rfl ?_
      exact y_iret 37 Y dX6_meaningAt_37 rfl h
    · replace h := h.2 c
      refine y_aload_n 10 Y dX6_meaningAt_10 rfl ?_
      refine y_geta 11 Y 17 dX6_meaningAt_11 rfl rfl ?_
      refine y_iconst 14 Y dX6_meaningAt_14 rfl ?_
      refine y_aload_n 15 Y dX6_meaningAt_15 rfl ?_
      refine y_geta 16 Y 5 dX6_meaningAt_16 rfl rfl ?_
      refine y_iload_n 19 Y dX6_meaningAt_19 rfl ?_
      refine y_iald 20 Y dX6_meaningAt_20 rfl rfl o1 o2 (fun _ => ?_)
      refine y_calls 21 Y (as := [mi (S 5 a1)]) [mi 3, mr 17] dX6_meaningAt_21 rfl rfl rfl rfl rfl h (fun r S3 hq hI hr => ?_)
      obtain ⟨v4, rfl, h⟩ := Qi_ok hq
      replace h := h hI (mokI (hr _ rfl))
      clear hq hr
      obtain ⟨o5, h⟩ := h
      refine y_imul 24 Y dX6_meaningAt_24 o5 ?_
      refine y_aload_n 25 Y dX6_meaningAt_25 rfl ?_
      refine y_geta 26 Y 6 dX6_meaningAt_26 rfl rfl ?_
      refine y_iload_n 29 Y dX6_meaningAt_29 rfl ?_
      refine y_iald 30 Y dX6_meaningAt_30 rfl rfl o1 o2 (fun _ => ?_)
      obtain ⟨o6, h⟩ := h
      refine y_iadd 31 Y dX6_meaningAt_31 o6 ?_
      obtain ⟨o7, h⟩ := h
      obtain ⟨o8, h⟩ := h
      refine y_iald 32 Y dX6_meaningAt_32 rfl rfl o7 o8 (fun _ => ?_)
      refine y_goto 33 37 Y dX6_meaningAt_33 rfl rfl ?_
      exact y_iret 37 Y dX6_meaningAt_37 rfl h
  · intro n pc L st T hi
    exact hi.elim
set_option maxHeartbeats 4000000 in
theorem of_minus {g : mG} {S : mS} {a1 a2 : Int} {Qp : Option mV → mS → Prop} (I5 : Nat → Int → Int → Int → Int → mS → Prop)
    (hE : mI S → (-2147483648 ≤ a1 ∧ a1 ≤ 2147483647) → (-2147483648 ≤ a2 ∧ a2 ≤ 2147483647) → (∃ n1, I5 n1 a1 a2 0 0 S))
    (h5 : ∀ (n : Nat) (l1 l2 l3 l4 : Int) (T : mS), mI T → (-2147483648 ≤ l1 ∧ l1 ≤ 2147483647) → (-2147483648 ≤ l2 ∧ l2 ≤ 2147483647) → (-2147483648 ≤ l3 ∧ l3 ≤ 2147483647) → (-2147483648 ≤ l4 ∧ l4 ≤ 2147483647) → I5 n l1 l2 l3 l4 T → (0 ≤ l1) ∧ (l1 < 16) ∧ (((T 2 l1) ≤ l4) → CX_trim g [mt, mi l1] T (Qv fun S3 => mI S3 → Qp none S3)) ∧ (¬ ((T 2 l1) ≤ l4) → (-2147483648 ≤ ((440 * l1) : Int) ∧ (440 * l1) ≤ 2147483647) ∧ (-2147483648 ≤ (((440 * l1) + l4) : Int) ∧ ((440 * l1) + l4) ≤ 2147483647) ∧ (0 ≤ ((440 * l1) + l4)) ∧ (((440 * l1) + l4) < 7040) ∧ (-2147483648 ≤ (((T 1 ((440 * l1) + l4)) - l3) : Int) ∧ ((T 1 ((440 * l1) + l4)) - l3) ≤ 2147483647) ∧ (0 ≤ l2) ∧ (l2 < 16) ∧ (((T 2 l2) ≤ l4) → (-2147483648 ≤ ((((T 1 ((440 * l1) + l4)) - l3) - 0) : Int) ∧ (((T 1 ((440 * l1) + l4)) - l3) - 0) ≤ 2147483647) ∧ ((0 ≤ (((T 1 ((440 * l1) + l4)) - l3) - 0)) → (-2147483648 ≤ ((l4 + 1) : Int) ∧ (l4 + 1) ≤ 2147483647) ∧ (∃ n1, n1 < n ∧ I5 n1 l1 l2 0 (l4 + 1) (mup T 1 ((440 * l1) + l4) ((((T 1 ((440 * l1) + l4)) - l3) - 0) % 65536)))) ∧ (¬ (0 ≤ (((T 1 ((440 * l1) + l4)) - l3) - 0)) → (-2147483648 ≤ ((l4 + 1) : Int) ∧ (l4 + 1) ≤ 2147483647) ∧ (∃ n1, n1 < n ∧ I5 n1 l1 l2 1 (l4 + 1) (mup T 1 ((440 * l1) + l4) ((((T 1 ((440 * l1) + l4)) - l3) - 0) % 65536))))) ∧ (¬ ((T 2 l2) ≤ l4) → (-2147483648 ≤ ((440 * l2) : Int) ∧ (440 * l2) ≤ 2147483647) ∧ (-2147483648 ≤ (((440 * l2) + l4) : Int) ∧ ((440 * l2) + l4) ≤ 2147483647) ∧ (0 ≤ ((440 * l2) + l4)) ∧ (((440 * l2) + l4) < 7040) ∧ (-2147483648 ≤ ((((T 1 ((440 * l1) + l4)) - l3) - (T 1 ((440 * l2) + l4))) : Int) ∧ (((T 1 ((440 * l1) + l4)) - l3) - (T 1 ((440 * l2) + l4))) ≤ 2147483647) ∧ ((0 ≤ (((T 1 ((440 * l1) + l4)) - l3) - (T 1 ((440 * l2) + l4)))) → (-2147483648 ≤ ((l4 + 1) : Int) ∧ (l4 + 1) ≤ 2147483647) ∧ (∃ n1, n1 < n ∧ I5 n1 l1 l2 0 (l4 + 1) (mup T 1 ((440 * l1) + l4) ((((T 1 ((440 * l1) + l4)) - l3) - (T 1 ((440 * l2) + l4))) % 65536)))) ∧ (¬ (0 ≤ (((T 1 ((440 * l1) + l4)) - l3) - (T 1 ((440 * l2) + l4)))) → (-2147483648 ≤ ((l4 + 1) : Int) ∧ (l4 + 1) ≤ 2147483647) ∧ (∃ n1, n1 < n ∧ I5 n1 l1 l2 1 (l4 + 1) (mup T 1 ((440 * l1) + l4) ((((T 1 ((440 * l1) + l4)) - l3) - (T 1 ((440 * l2) + l4))) % 65536)))))))
    : CX_minus g [mt, mi a1, mi a2] S Qp := by
  refine cm_y ⟨by decide, rfl⟩ (by simp [mcat]) (by simp) (fun n pc L st S => (pc = 5 ∧ ∃ (l1 : Int) (l2 : Int) (l3 : Int) (l4 : Int), L = [some mt, some (mi l1), some (mi l2), some (mi l3), some (mi l4), none] ∧ st = [] ∧ I5 n l1 l2 l3 l4 S)) ?_ ?_
  · intro ha hS P Y Wk hIc
    have h := hE hS (mokI (ha (mi a1) (by simp))) (mokI (ha (mi a2) (by simp)))
    clear hE ha h5
    refine y_iconst 0 Y dX6_minus_0 rfl ?_
    refine y_istore_n 1 Y [some mt, some (mi a1), some (mi a2), some (mi 0), none, none] dX6_minus_1 rfl rfl ?_
    refine y_iconst 2 Y dX6_minus_2 rfl ?_
    refine y_istore 3 Y [some mt, some (mi a1), some (mi a2), some (mi 0), some (mi 0), none] dX6_minus_3 rfl rfl ?_
    obtain ⟨n1, h⟩ := h
    exact Wk 5 _ [some mt, some (mi a1), some (mi a2), some (mi 0), some (mi 0), none] _ _ ⟨rfl, ⟨rfl, ⟨rfl, ⟨rfl, ⟨rfl, trivial⟩⟩⟩⟩⟩ (hIc n1 _ _ _ _ ((⟨rfl, _, _, _, _, rfl, rfl, h⟩)))
  · intro n pc L st T hi hS hL P Y Wk hIc
    clear hE
    rcases hi with ⟨rfl, l1, l2, l3, l4, rfl, rfl, hi⟩
    · have h := h5 n l1 l2 l3 l4 T hS (hL 1 _ rfl) (hL 2 _ rfl) (hL 3 _ rfl) (hL 4 _ rfl) hi
      clear hL hi h5
      refine y_iload 5 Y dX6_minus_5 rfl ?_
      refine y_aload_n 7 Y dX6_minus_7 rfl ?_
      refine y_geta 8 Y 2 dX6_minus_8 rfl rfl ?_
      refine y_iload_n 11 Y dX6_minus_11 rfl ?_
      obtain ⟨o1, h⟩ := h
      obtain ⟨o2, h⟩ := h
      refine y_iald 12 Y dX6_minus_12 rfl rfl o1 o2 (fun _ => ?_)
      refine y_icmp 13 97 Y dX6_minus_13 rfl rfl (fun c => ?_) (fun c => ?_)
      · replace h := h.1 c
        refine y_aload_n 97 Y dX6_minus_97 rfl ?_
        refine y_iload_n 98 Y dX6_minus_98 rfl ?_
        refine y_call 99 Y (as := [mi l1]) [] dX6_minus_99 rfl rfl rfl rfl rfl h (fun r S3 hq hI _ => ?_)
        obtain ⟨rfl, h⟩ := Qv_ok hq
        replace h := h hI
        clear hq
        exact y_ret 102 Y dX6_minus_102 rfl h
      · replace h := h.2 c
        refine y_aload_n 16 Y dX6_minus_16 rfl ?_
        refine y_geta 17 Y 1 dX6_minus_17 rfl rfl ?_
        refine y_sipush 20 Y dX6_minus_20 rfl ?_
        refine y_iload_n 23 Y dX6_minus_23 rfl ?_
        obtain ⟨o4, h⟩ := h
        refine y_imul 24 Y dX6_minus_24 o4 ?_
        refine y_iload 25 Y dX6_minus_25 rfl ?_
        obtain ⟨o5, h⟩ := h
        refine y_iadd 27 Y dX6_minus_27 o5 ?_
        obtain ⟨o6, h⟩ := h
        obtain ⟨o7, h⟩ := h
        refine y_iald 28 Y dX6_minus_28 rfl rfl o6 o7 (fun _ => ?_)
        refine y_iload_n 29 Y dX6_minus_29 rfl ?_
        obtain ⟨o8, h⟩ := h
        refine y_isub 30 Y dX6_minus_30 o8 ?_
        refine y_iload 31 Y dX6_minus_31 rfl ?_
        refine y_aload_n 33 Y dX6_minus_33 rfl ?_
        refine y_geta 34 Y 2 dX6_minus_34 rfl rfl ?_
        refine y_iload_n 37 Y dX6_minus_37 rfl ?_
        obtain ⟨o9, h⟩ := h
        obtain ⟨o10, h⟩ := h
        refine y_iald 38 Y dX6_minus_38 rfl rfl o9 o10 (fun _ => ?_)
        refine y_icmp 39 58 Y dX6_minus_39 rfl rfl (fun c => ?_) (fun c => ?_)
        · replace h := h.1 c
          refine y_iconst 58 Y dX6_minus_58 rfl ?_
          obtain ⟨o11, h⟩ := h
          refine y_isub 59 Y dX6_minus_59 o11 ?_
          refine y_istore 60 Y [some mt, some (mi l1), some (mi l2), some (mi l3), some (mi l4), some (mi (((T 1 ((440 * l1) + l4)) - l3) - 0))] dX6_minus_60 rfl rfl ?_
          refine y_aload_n 62 Y dX6_minus_62 rfl ?_
          refine y_geta 63 Y 1 dX6_minus_63 rfl rfl ?_
          refine y_sipush 66 Y dX6_minus_66 rfl ?_
          refine y_iload_n 69 Y dX6_minus_69 rfl ?_
          refine y_imul 70 Y dX6_minus_70 o4 ?_
          refine y_iload 71 Y dX6_minus_71 rfl ?_
          refine y_iadd 73 Y dX6_minus_73 o5 ?_
          refine y_iload 74 Y dX6_minus_74 rfl ?_
          refine y_ldc 76 Y dX6_minus_76 rfl ?_
          refine y_iand 78 Y dX6_minus_78 mm_65535 ?_
          refine y_iast 79 Y dX6_minus_79 rfl rfl o6 o7 ?_
          refine y_iload 80 Y dX6_minus_80 rfl ?_
          refine y_if 82 89 Y dX6_minus_82 rfl rfl (fun c => ?_) (fun c => ?_)
          · replace h := h.1 c
            refine y_iconst 89 Y dX6_minus_89 rfl ?_
            refine y_istore_n 90 Y [some mt, some (mi l1), some (mi l2), some (mi 0), some (mi l4), some (mi (((T 1 ((440 * l1) + l4)) - l3) - 0))] dX6_minus_90 rfl rfl ?_
            obtain ⟨o12, h⟩ := h
            refine y_iinc 91 Y [some mt, some (mi l1), some (mi l2), some (mi 0), some (mi (l4 + 1)), some (mi (((T 1 ((440 * l1) + l4)) - l3) - 0))] dX6_minus_91 rfl rfl o12 ?_
            refine y_goto 94 5 Y dX6_minus_94 rfl rfl ?_
            obtain ⟨n1, hn, h⟩ := h
            exact Wk 5 _ [some mt, some (mi l1), some (mi l2), some (mi 0), some (mi (l4 + 1)), none] _ _ ⟨rfl, ⟨rfl, ⟨rfl, ⟨rfl, ⟨rfl, trivial⟩⟩⟩⟩⟩ (hIc n1 _ _ _ _ hn ((⟨rfl, _, _, _, _, rfl, rfl, h⟩)))
          · replace h := h.2 c
            refine y_iconst 85 Y dX6_minus_85 rfl ?_
            refine y_goto 86 90 Y dX6_minus_86 rfl rfl ?_
            refine y_istore_n 90 Y [some mt, some (mi l1), some (mi l2), some (mi 1), some (mi l4), some (mi (((T 1 ((440 * l1) + l4)) - l3) - 0))] dX6_minus_90 rfl rfl ?_
            obtain ⟨o13, h⟩ := h
            refine y_iinc 91 Y [some mt, some (mi l1), some (mi l2), some (mi 1), some (mi (l4 + 1)), some (mi (((T 1 ((440 * l1) + l4)) - l3) - 0))] dX6_minus_91 rfl rfl o13 ?_
            refine y_goto 94 5 Y dX6_minus_94 rfl rfl ?_
            obtain ⟨n1, hn, h⟩ := h
            exact Wk 5 _ [some mt, some (mi l1), some (mi l2), some (mi 1), some (mi (l4 + 1)), none] _ _ ⟨rfl, ⟨rfl, ⟨rfl, ⟨rfl, ⟨rfl, trivial⟩⟩⟩⟩⟩ (hIc n1 _ _ _ _ hn ((⟨rfl, _, _, _, _, rfl, rfl, h⟩)))
        · replace h := h.2 c
          refine y_aload_n 42 Y dX6_minus_42 rfl ?_
          refine y_geta 43 Y 1 dX6_minus_43 rfl rfl ?_
          refine y_sipush 46 Y dX6_minus_46 rfl ?_
          refine y_iload_n 49 Y dX6_minus_49 rfl ?_
          obtain ⟨o14, h⟩ := h
          refine y_imul 50 Y dX6_minus_50 o14 ?_
          refine y_iload 51 Y dX6_minus_51 rfl ?_
          obtain ⟨o15, h⟩ := h
          refine y_iadd 53 Y dX6_minus_53 o15 ?_
          obtain ⟨o16, h⟩ := h
          obtain ⟨o17, h⟩ := h
          refine y_iald 54 Y dX6_minus_54 rfl rfl o16 o17 (fun _ => ?_)
          refine y_goto 55 59 Y dX6_minus_55 rfl rfl ?_
          obtain ⟨o18, h⟩ := h
          refine y_isub 59 Y dX6_minus_59 o18 ?_
          refine y_istore 60 Y [some mt, some (mi l1), some (mi l2), some (mi l3), some (mi l4), some (mi (((T 1 ((440 * l1) + l4)) - l3) - (T 1 ((440 * l2) + l4))))] dX6_minus_60 rfl rfl ?_
          refine y_aload_n 62 Y dX6_minus_62 rfl ?_
          refine y_geta 63 Y 1 dX6_minus_63 rfl rfl ?_
          refine y_sipush 66 Y dX6_minus_66 rfl ?_
          refine y_iload_n 69 Y dX6_minus_69 rfl ?_
          refine y_imul 70 Y dX6_minus_70 o4 ?_
          refine y_iload 71 Y dX6_minus_71 rfl ?_
          refine y_iadd 73 Y dX6_minus_73 o5 ?_
          refine y_iload 74 Y dX6_minus_74 rfl ?_
          refine y_ldc 76 Y dX6_minus_76 rfl ?_
          refine y_iand 78 Y dX6_minus_78 mm_65535 ?_
          refine y_iast 79 Y dX6_minus_79 rfl rfl o6 o7 ?_
          refine y_iload 80 Y dX6_minus_80 rfl ?_
          refine y_if 82 89 Y dX6_minus_82 rfl rfl (fun c => ?_) (fun c => ?_)
          · replace h := h.1 c
            refine y_iconst 89 Y dX6_minus_89 rfl ?_
            refine y_istore_n 90 Y [some mt, some (mi l1), some (mi l2), some (mi 0), some (mi l4), some (mi (((T 1 ((440 * l1) + l4)) - l3) - (T 1 ((440 * l2) + l4))))] dX6_minus_90 rfl rfl ?_
            obtain ⟨o19, h⟩ := h
            refine y_iinc 91 Y [some mt, some (mi l1), some (mi l2), some (mi 0), some (mi (l4 + 1)), some (mi (((T 1 ((440 * l1) + l4)) - l3) - (T 1 ((440 * l2) + l4))))] dX6_minus_91 rfl rfl o19 ?_
            refine y_goto 94 5 Y dX6_minus_94 rfl rfl ?_
            obtain ⟨n1, hn, h⟩ := h
            exact Wk 5 _ [some mt, some (mi l1), some (mi l2), some (mi 0), some (mi (l4 + 1)), none] _ _ ⟨rfl, ⟨rfl, ⟨rfl, ⟨rfl, ⟨rfl, trivial⟩⟩⟩⟩⟩ (hIc n1 _ _ _ _ hn ((⟨rfl, _, _, _, _, rfl, rfl, h⟩)))
          · replace h := h.2 c
            refine y_iconst 85 Y dX6_minus_85 rfl ?_
            refine y_goto 86 90 Y dX6_minus_86 rfl rfl ?_
            refine y_istore_n 90 Y [some mt, some (mi l1), some (mi l2), some (mi 1), some (mi l4), some (mi (((T 1 ((440 * l1) + l4)) - l3) - (T 1 ((440 * l2) + l4))))] dX6_minus_90 rfl rfl ?_
            obtain ⟨o20, h⟩ := h
            refine y_iinc 91 Y [some mt, some (mi l1), some (mi l2), some (mi 1), some (mi (l4 + 1)), some (mi (((T 1 ((440 * l1) + l4)) - l3) - (T 1 ((440 * l2) + l4))))] dX6_minus_91 rfl rfl o20 ?_
            refine y_goto 94 5 Y dX6_minus_94 rfl rfl ?_
            obtain ⟨n1, hn, h⟩ := h
            exact Wk 5 _ [some mt, some (mi l1), some (mi l2), some (mi 1), some (mi (l4 + 1)), none] _ _ ⟨rfl, ⟨rfl, ⟨rfl, ⟨rfl, ⟨rfl, trivial⟩⟩⟩⟩⟩ (hIc n1 _ _ _ _ hn ((⟨rfl, _, _, _, _, rfl, rfl, h⟩)))

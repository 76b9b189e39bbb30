/-! Contracts out of conditions; printed by gen_vc.py. -/
set_option maxRecDepth 100000
set_option maxHeartbeats 4000000 in
theorem of_pairTwo {g : mG} {S : mS} {a1 a2 : Int} {Qp : Option mV → mS → Prop}
    (hE : mI S → (-2147483648 ≤ a1 ∧ a1 ≤ 2147483647) → (-2147483648 ≤ a2 ∧ a2 ≤ 2147483647) → (-2147483648 ≤ (((S 76 0) - 1) : Int) ∧ ((S 76 0) - 1) ≤ 2147483647) ∧ (-2147483648 ≤ ((mup S 76 0 ((S 76 0) - 1)) 76 0) ∧ ((mup S 76 0 ((S 76 0) - 1)) 76 0) ≤ 2147483647 → (-2147483648 ≤ ((((mup S 76 0 ((S 76 0) - 1)) 76 0) - 1) : Int) ∧ (((mup S 76 0 ((S 76 0) - 1)) 76 0) - 1) ≤ 2147483647) ∧ CX_valueAt g [mi (((mup S 76 0 ((S 76 0) - 1)) 76 0) - 1)] (mup S 76 0 ((S 76 0) - 1)) (Qi fun v4 S3 => mI S3 → (-2147483648 ≤ v4 ∧ v4 ≤ 2147483647) → CX_valueAt g [mi (S3 76 0)] S3 (Qi fun v6 S5 => mI S5 → (-2147483648 ≤ v6 ∧ v6 ≤ 2147483647) → CX_child g [mt, mi a1, mi 1] S5 (Qi fun v8 S7 => mI S7 → (-2147483648 ≤ v8 ∧ v8 ≤ 2147483647) → ((a2 ≠ 5) → CX_copyValue g [mt, mi 3605, mi v4] S7 (Qv fun S9 => mI S9 → CX_two g [mt, mi a2, mi 3605, mi v6] S9 (Qi fun v11 S10 => mI S10 → (-2147483648 ≤ v11 ∧ v11 ≤ 2147483647) → ((v11 ≤ 0) → ((a2 ≠ 3) → ((a2 ≠ 2) → (-2147483648 ≤ ((v4 + 1) : Int) ∧ (v4 + 1) ≤ 2147483647) ∧ (-2147483648 ≤ ((v6 + 1) : Int) ∧ (v6 + 1) ≤ 2147483647) ∧ ((a2 ≠ 0) → CX_addValues g [mt, mi (v4 + 1), mi (v4 + 1), mi (v6 + 1), mi (-1)] S10 (Qi fun v15 S14 => mI S14 → (-2147483648 ≤ v15 ∧ v15 ≤ 2147483647) → CX_copyValue g [mt, mi v4, mi 3605] S14 (Qv fun S16 => mI S16 → ((v15 = 0) → Qp (some (mi 3)) S16) ∧ (¬ (v15 = 0) → Qp (some (mi 0)) S16)))) ∧ (¬ (a2 ≠ 0) → CX_addValues g [mt, mi (v4 + 1), mi (v4 + 1), mi (v6 + 1), mi 1] S10 (Qi fun v18 S17 => mI S17 → (-2147483648 ≤ v18 ∧ v18 ≤ 2147483647) → CX_copyValue g [mt, mi v4, mi 3605] S17 (Qv fun S19 => mI S19 → ((v18 = 0) → Qp (some (mi 3)) S19) ∧ (¬ (v18 = 0) → Qp (some (mi 0)) S19))))) ∧ (¬ (a2 ≠ 2) → CX_clearWide g [mt] S10 (Qv fun S20 => mI S20 → (-2147483648 ≤ ((v4 + 1) : Int) ∧ (v4 + 1) ≤ 2147483647) ∧ CX_addProduct g [mt, mi (v4 + 1), mi v6, mi 1] S20 (Qv fun S22 => mI S22 → (-2147483648 ≤ ((v6 + 1) : Int) ∧ (v6 + 1) ≤ 2147483647) ∧ CX_addProduct g [mt, mi v4, mi (v6 + 1), mi 1] S22 (Qv fun S24 => mI S24 → CX_storeWide g [mt, mi (v4 + 1)] S24 (Qi fun v26 S25 => mI S25 → (-2147483648 ≤ v26 ∧ v26 ≤ 2147483647) → CX_copyValue g [mt, mi v4, mi 3605] S25 (Qv fun S27 => mI S27 → ((v26 = 0) → Qp (some (mi 3)) S27) ∧ (¬ (v26 = 0) → Qp (some (mi 0)) S27)))))))) ∧ (¬ (a2 ≠ 3) → CX_partOfQuotient g [mt, mi v4, mi v6] S10 (Qi fun v29 S28 => mI S28 → (-2147483648 ≤ v29 ∧ v29 ≤ 2147483647) → (-2147483648 ≤ ((v4 + 1) : Int) ∧ (v4 + 1) ≤ 2147483647) ∧ CX_copyValue g [mt, mi (v4 + 1), mi 3604] S28 (Qv fun S31 => mI S31 → CX_copyValue g [mt, mi v4, mi 3605] S31 (Qv fun S32 => mI S32 → ((v29 = 0) → Qp (some (mi 3)) S32) ∧ (¬ (v29 = 0) → Qp (some (mi 0)) S32)))))) ∧ (¬ (v11 ≤ 0) → Qp (some (mi v11)) S10)))) ∧ (¬ (a2 ≠ 5) → CX_power g [mt, mi 3605, mi v4, mi v6] S7 (Qi fun v34 S33 => mI S33 → (-2147483648 ≤ v34 ∧ v34 ≤ 2147483647) → ((v34 ≤ 0) → (0 ≤ v8) ∧ (v8 < 20300) ∧ (((S33 5 v8) ≠ 0) → CX_partOfPower g [mt, mi v4, mi (S33 5 v8)] S33 (Qi fun v38 S37 => mI S37 → (-2147483648 ≤ v38 ∧ v38 ≤ 2147483647) → CX_copyValue g [mt, mi v4, mi 3605] S37 (Qv fun S39 => mI S39 → ((v38 = 0) → Qp (some (mi 3)) S39) ∧ (¬ (v38 = 0) → Qp (some (mi 0)) S39)))) ∧ (¬ ((S33 5 v8) ≠ 0) → (-2147483648 ≤ ((v4 + 1) : Int) ∧ (v4 + 1) ≤ 2147483647) ∧ CX_setInt g [mt, mi (v4 + 1), mi 0] S33 (Qv fun S41 => mI S41 → CX_copyValue g [mt, mi v4, mi 3605] S41 (Qv fun S42 => mI S42 → Qp (some (mi 0)) S42)))) ∧ (¬ (v34 ≤ 0) → Qp (some (mi v34)) S33))))))))
    : CX_pairTwo g [mt, mi a1, mi a2] S Qp := by
  refine cm_y ⟨by decide, rfl⟩ (by simp [mcat]) (by simp) (fun _ _ _ _ _ => False) ?_ ?_
  · intro ha hS P Y Wk hIc
    have h := hE hS (mokI (ha (mi a1) (by simp))) (mokI (ha (mi a2) (by simp)))
    clear hE ha
    refine y_aload_n 0 Y dX6_pairTwo_0 rfl ?_
    refine y_dup 1 Y dX6_pairTwo_1 rfl ?_
    refine y_getf 2 Y 76 dX6_pairTwo_2 rfl rfl (fun _ => ?_)
    refine y_iconst 5 Y dX6_pairTwo_5 rfl ?_
    obtain ⟨o1, h⟩ := h
    refine y_isub 6 Y dX6_pairTwo_6 o1 ?_
    refine y_putf 7 Y 76 dX6_pairTwo_7 rfl rfl (fun q => absurd q (by decide)) ?_
    refine y_aload_n 10 Y dX6_pairTwo_10 rfl ?_
    refine y_getf 11 Y 76 dX6_pairTwo_11 rfl rfl (fun q => ?_)
    replace h := h q
    refine y_iconst 14 Y dX6_pairTwo_14 rfl ?_
    obtain ⟨o2, h⟩ := h
    refine y_isub 15 Y dX6_pairTwo_15 o2 ?_
    refine y_calls 16 Y (as := [mi (((mup S 76 0 ((S 76 0) - 1)) 76 0) - 1)]) [] dX6_pairTwo_16 rfl rfl rfl rfl rfl h (fun r S3 hq hI hr => ?_)
    obtain ⟨v4, rfl, h⟩ := Qi_ok hq
    replace h := h hI (mokI (hr _ rfl))
    clear hq hr
    refine y_istore_n 19 Y [some mt, some (mi a1), some (mi a2), some (mi v4), none, none, none, none] dX6_pairTwo_19 rfl rfl ?_
    refine y_aload_n 20 Y dX6_pairTwo_20 rfl ?_
    refine y_getf 21 Y 76 dX6_pairTwo_21 rfl rfl (fun _ => ?_)
    refine y_calls 24 Y (as := [mi (S3 76 0)]) [] dX6_pairTwo_24 rfl rfl rfl rfl rfl h (fun r S5 hq hI hr => ?_)
    obtain ⟨v6, rfl, h⟩ := Qi_ok hq
    replace h := h hI (mokI (hr _ rfl))
    clear hq hr
    refine y_istore 27 Y [some mt, some (mi a1), some (mi a2), some (mi v4), some (mi v6), none, none, none] dX6_pairTwo_27 rfl rfl ?_
    refine y_iconst 29 Y dX6_pairTwo_29 rfl ?_
    refine y_istore 30 Y [some mt, some (mi a1), some (mi a2), some (mi v4), some (mi v6), some (mi 1), none, none] dX6_pairTwo_30 rfl rfl ?_
    refine y_aload_n 32 Y dX6_pairTwo_32 rfl ?_
    refine y_iload_n 33 Y dX6_pairTwo_33 rfl ?_
    refine y_iconst 34 Y dX6_pairTwo_34 rfl ?_
    refine y_call 35 Y (as := [mi a1, mi 1]) [] dX6_pairTwo_35 rfl rfl rfl rfl rfl h (fun r S7 hq hI hr => ?_)
    obtain ⟨v8, rfl, h⟩ := Qi_ok hq
    replace h := h hI (mokI (hr _ rfl))
    clear hq hr
    refine y_istore 38 Y [some mt, some (mi a1), some (mi a2), some (mi v4), some (mi v6), some (mi 1), some (mi v8), none] dX6_pairTwo_38 rfl rfl ?_
    refine y_iload_n 40 Y dX6_pairTwo_40 rfl ?_
    refine y_iconst 41 Y dX6_pairTwo_41 rfl ?_
    refine y_icmp 42 119 Y dX6_pairTwo_42 rfl rfl (fun c => ?_) (fun c => ?_)
    · replace h := h.1 c
      refine y_aload_n 119 Y dX6_pairTwo_119 rfl ?_
      refine y_sipush 120 Y dX6_pairTwo_120 rfl ?_
      refine y_iload_n 123 Y dX6_pairTwo_123 rfl ?_
      refine y_call 124 Y (as := [mi 3605, mi v4]) [] dX6_pairTwo_124 rfl rfl rfl rfl rfl h (fun r S9 hq hI _ => ?_)
      obtain ⟨rfl, h⟩ := Qv_ok hq
      replace h := h hI
      clear hq
      refine y_aload_n 127 Y dX6_pairTwo_127 rfl ?_
      refine y_iload_n 128 Y dX6_pairTwo_128 rfl ?_
      refine y_sipush 129 Y dX6_pairTwo_129 rfl ?_
      refine y_iload 132 Y dX6_pairTwo_132 rfl ?_
      refine y_call 134 Y (as := [mi a2, mi 3605, mi v6]) [] dX6_pairTwo_134 rfl rfl rfl rfl rfl h (fun r S10 hq hI hr => ?_)
      obtain ⟨v11, rfl, h⟩ := Qi_ok hq
      replace h := h hI (mokI (hr _ rfl))
      clear hq hr
      refine y_istore 137 Y [some mt, some (mi a1), some (mi a2), some (mi v4), some (mi v6), some (mi 1), some (mi v8), some (mi v11)] dX6_pairTwo_137 rfl rfl ?_
      refine y_iload 139 Y dX6_pairTwo_139 rfl ?_
      refine y_if 141 147 Y dX6_pairTwo_141 rfl rfl (fun c => ?_) (fun c => ?_)
      · replace h := h.1 c
        refine y_iload_n 147 Y dX6_pairTwo_147 rfl ?_
        refine y_iconst 148 Y dX6_pairTwo_148 rfl ?_
        refine y_icmp 149 174 Y dX6_pairTwo_149 rfl rfl (fun c => ?_) (fun c => ?_)
        · replace h := h.1 c
          refine y_iload_n 174 Y dX6_pairTwo_174 rfl ?_
          refine y_iconst 175 Y dX6_pairTwo_175 rfl ?_
          refine y_icmp 176 215 Y dX6_pairTwo_176 rfl rfl (fun c => ?_) (fun c => ?_)
          · replace h := h.1 c
            refine y_aload_n 215 Y dX6_pairTwo_215 rfl ?_
            refine y_iload_n 216 Y dX6_pairTwo_216 rfl ?_
            refine y_iconst 217 Y dX6_pairTwo_217 rfl ?_
            obtain ⟨o12, h⟩ := h
            refine y_iadd 218 Y dX6_pairTwo_218 o12 ?_
            refine y_iload_n 219 Y dX6_pairTwo_219 rfl ?_
            refine y_iconst 220 Y dX6_pairTwo_220 rfl ?_
            refine y_iadd 221 Y dX6_pairTwo_221 o12 ?_
            refine y_iload 222 Y dX6_pairTwo_222 rfl ?_
            refine y_iconst 224 Y dX6_pairTwo_224 rfl ?_
            obtain ⟨o13, h⟩ := h
            refine y_iadd 225 Y dX6_pairTwo_225 o13 ?_
            refine y_iload_n 226 Y dX6_pairTwo_226 rfl ?_
            refine y_if 227 234 Y dX6_pairTwo_227 rfl rfl (fun c => ?_) (fun c => ?_)
            · replace h := h.1 c
              refine y_iconst 234 Y dX6_pairTwo_234 rfl ?_
              refine y_call 235 Y (as := [mi (v4 + 1), mi (v4 + 1), mi (v6 + 1), mi (-1)]) [] dX6_pairTwo_235 rfl rfl rfl rfl rfl h (fun r S14 hq hI hr => ?_)
              obtain ⟨v15, rfl, h⟩ := Qi_ok hq
              replace h := h hI (mokI (hr _ rfl))
              clear hq hr
              refine y_istore 238 Y [some mt, some (mi a1), some (mi a2), some (mi v4), some (mi v6), some (mi v15), some (mi v8), some (mi v11)] dX6_pairTwo_238 rfl rfl ?_
              refine y_aload_n 240 Y dX6_pairTwo_240 rfl ?_
              refine y_iload_n 241 Y dX6_pairTwo_241 rfl ?_
              refine y_sipush 242 Y dX6_pairTwo_242 rfl ?_
              refine y_call 245 Y (as := [mi v4, mi 3605]) [] dX6_pairTwo_245 rfl rfl rfl rfl rfl h (fun r S16 hq hI _ => ?_)
              obtain ⟨rfl, h⟩ := Qv_ok hq
              replace h := h hI
              clear hq
              refine y_iload 248 Y dX6_pairTwo_248 rfl ?_
              refine y_if 250 257 Y dX6_pairTwo_250 rfl rfl (fun c => ?_) (fun c => ?_)
              · replace h := h.1 c
                refine y_iconst 257 Y dX6_pairTwo_257 rfl ?_
                exact y_iret 258 Y dX6_pairTwo_258 rfl h
              · replace h := h.2 c
                refine y_iconst 253 Y dX6_pairTwo_253 rfl ?_
                refine y_goto 254 258 Y dX6_pairTwo_254 rfl rfl ?_
                exact y_iret 258 Y dX6_pairTwo_258 rfl h
            · replace h := h.2 c
              refine y_iconst 230 Y dX6_pairTwo_230 rfl ?_
              refine y_goto 231 235 Y dX6_pairTwo_231 rfl rfl ?_
              refine y_call 235 Y (as := [mi (v4 + 1), mi (v4 + 1), mi (v6 + 1), mi 1]) [] dX6_pairTwo_235 rfl rfl rfl rfl rfl h (fun r S17 hq hI hr => ?_)
              obtain ⟨v18, rfl, h⟩ := Qi_ok hq
              replace h := h hI (mokI (hr _ rfl))
              clear hq hr
              refine y_istore 238 Y [some mt, some (mi a1), some (mi a2), some (mi v4), some (mi v6), some (mi v18), some (mi v8), some (mi v11)] dX6_pairTwo_238 rfl rfl ?_
              refine y_aload_n 240 Y dX6_pairTwo_240 rfl ?_
              refine y_iload_n 241 Y dX6_pairTwo_241 rfl ?_
              refine y_sipush 242 Y dX6_pairTwo_242 rfl ?_
              refine y_call 245 Y (as := [mi v4, mi 3605]) [] dX6_pairTwo_245 rfl rfl rfl rfl rfl h (fun r S19 hq hI _ => ?_)
              obtain ⟨rfl, h⟩ := Qv_ok hq
              replace h := h hI
              clear hq
              refine y_iload 248 Y dX6_pairTwo_248 rfl ?_
              refine y_if 250 257 Y dX6_pairTwo_250 rfl rfl (fun c => ?_) (fun c => ?_)
              · replace h := h.1 c
                refine y_iconst 257 Y dX6_pairTwo_257 rfl ?_
                exact y_iret 258 Y dX6_pairTwo_258 rfl h
              · replace h := h.2 c
                refine y_iconst 253 Y dX6_pairTwo_253 rfl ?_
                refine y_goto 254 258 Y dX6_pairTwo_254 rfl rfl ?_
                exact y_iret 258 Y dX6_pairTwo_258 rfl h
          · replace h := h.2 c
            refine y_aload_n 179 Y dX6_pairTwo_179 rfl ?_
            refine y_call 180 Y (as := []) [] dX6_pairTwo_180 rfl rfl rfl rfl rfl h (fun r S20 hq hI _ => ?_)
            obtain ⟨rfl, h⟩ := Qv_ok hq
            replace h := h hI
            clear hq
            refine y_aload_n 183 Y dX6_pairTwo_183 rfl ?_
            refine y_iload_n 184 Y dX6_pairTwo_184 rfl ?_
            refine y_iconst 185 Y dX6_pairTwo_185 rfl ?_
            obtain ⟨o21, h⟩ := h
            refine y_iadd 186 Y dX6_pairTwo_186 o21 ?_
            refine y_iload 187 Y dX6_pairTwo_187 rfl ?_
            refine y_iconst 189 Y dX6_pairTwo_189 rfl ?_
            refine y_call 190 Y (as := [mi (v4 + 1), mi v6, mi 1]) [] dX6_pairTwo_190 rfl rfl rfl rfl rfl h (fun r S22 hq hI _ => ?_)
            obtain ⟨rfl, h⟩ := Qv_ok hq
            replace h := h hI
            clear hq
            refine y_aload_n 193 Y dX6_pairTwo_193 rfl ?_
            refine y_iload_n 194 Y dX6_pairTwo_194 rfl ?_
            refine y_iload 195 Y dX6_pairTwo_195 rfl ?_
            refine y_iconst 197 Y dX6_pairTwo_197 rfl ?_
            obtain ⟨o23, h⟩ := h
            refine y_iadd 198 Y dX6_pairTwo_198 o23 ?_
            refine y_iconst 199 Y dX6_pairTwo_199 rfl ?_
            refine y_call 200 Y (as := [mi v4, mi (v6 + 1), mi 1]) [] dX6_pairTwo_200 rfl rfl rfl rfl rfl h (fun r S24 hq hI _ => ?_)
            obtain ⟨rfl, h⟩ := Qv_ok hq
            replace h := h hI
            clear hq
            refine y_aload_n 203 Y dX6_pairTwo_203 rfl ?_
            refine y_iload_n 204 Y dX6_pairTwo_204 rfl ?_
            refine y_iconst 205 Y dX6_pairTwo_205 rfl ?_
            refine y_iadd 206 Y dX6_pairTwo_206 o21 ?_
            refine y_call 207 Y (as := [mi (v4 + 1)]) [] dX6_pairTwo_207 rfl rfl rfl rfl rfl h (fun r S25 hq hI hr => ?_)
            obtain ⟨v26, rfl, h⟩ := Qi_ok hq
            replace h := h hI (mokI (hr _ rfl))
            clear hq hr
            refine y_istore 210 Y [some mt, some (mi a1), some (mi a2), some (mi v4), some (mi v6), some (mi v26), some (mi v8), some (mi v11)] dX6_pairTwo_210 rfl rfl ?_
            refine y_goto 212 240 Y dX6_pairTwo_212 rfl rfl ?_
            refine y_aload_n 240 Y dX6_pairTwo_240 rfl ?_
            refine y_iload_n 241 Y dX6_pairTwo_241 rfl ?_
            refine y_sipush 242 Y dX6_pairTwo_242 rfl ?_
            refine y_call 245 Y (as := [mi v4, mi 3605]) [] dX6_pairTwo_245 rfl rfl rfl rfl rfl h (fun r S27 hq hI _ => ?_)
            obtain ⟨rfl, h⟩ := Qv_ok hq
            replace h := h hI
            clear hq
            refine y_iload 248 Y dX6_pairTwo_248 rfl ?_
            refine y_if 250 257 Y dX6_pairTwo_250 rfl rfl (fun c => ?_) (fun c => ?_)
            · replace h := h.1 c
              refine y_iconst 257 Y dX6_pairTwo_257 rfl ?_
              exact y_iret 258 Y dX6_pairTwo_258 rfl h
            · replace h := h.2 c
              refine y_iconst 253 Y dX6_pairTwo_253 rfl ?_
              refine y_goto 254 258 Y dX6_pairTwo_254 rfl rfl ?_
              exact y_iret 258 Y dX6_pairTwo_258 rfl h
        · replace h := h.2 c
          refine y_aload_n 152 Y dX6_pairTwo_152 rfl ?_
          refine y_iload_n 153 Y dX6_pairTwo_153 rfl ?_
          refine y_iload 154 Y dX6_pairTwo_154 rfl ?_
          refine y_call 156 Y (as := [mi v4, mi v6]) [] dX6_pairTwo_156 rfl rfl rfl rfl rfl h (fun r S28 hq hI hr => ?_)
          obtain ⟨v29, rfl, h⟩ := Qi_ok hq
          replace h := h hI (mokI (hr _ rfl))
          clear hq hr
          refine y_istore 159 Y [some mt, some (mi a1), some (mi a2), some (mi v4), some (mi v6), some (mi v29), some (mi v8), some (mi v11)] dX6_pairTwo_159 rfl rfl ?_
          refine y_aload_n 161 Y dX6_pairTwo_161 rfl ?_
          refine y_iload_n 162 Y dX6_pairTwo_162 rfl ?_
          refine y_iconst 163 Y dX6_pairTwo_163 rfl ?_
          obtain ⟨o30, h⟩ := h
          refine y_iadd 164 Y dX6_pairTwo_164 o30 ?_
          refine y_sipush 165 Y dX6_pairTwo_165 rfl ?_
          refine y_call 168 Y (as := [mi (v4 + 1), mi 3604]) [] dX6_pairTwo_168 rfl rfl rfl rfl rfl h (fun r S31 hq hI _ => ?_)
          obtain ⟨rfl, h⟩ := Qv_ok hq
          replace h := h hI
          clear hq
          refine y_goto 171 240 Y dX6_pairTwo_171 rfl rfl ?_
          refine y_aload_n 240 Y dX6_pairTwo_240 rfl ?_
          refine y_iload_n 241 Y dX6_pairTwo_241 rfl ?_
          refine y_sipush 242 Y dX6_pairTwo_242 rfl ?_
          refine y_call 245 Y (as := [mi v4, mi 3605]) [] dX6_pairTwo_245 rfl rfl rfl rfl rfl h (fun r S32 hq hI _ => ?_)
          obtain ⟨rfl, h⟩ := Qv_ok hq
          replace h := h hI
          clear hq
          refine y_iload 248 Y dX6_pairTwo_248 rfl ?_
          refine y_if 250 257 Y dX6_pairTwo_250 rfl rfl (fun c => ?_) (fun c => ?_)
          · replace h := h.1 c
            refine y_iconst 257 Y dX6_pairTwo_257 rfl ?_
            exact y_iret 258 Y dX6_pairTwo_258 rfl h
          · replace h := h.2 c
            refine y_iconst 253 Y dX6_pairTwo_253 rfl ?_
            refine y_goto 254 258 Y dX6_pairTwo_254 rfl rfl ?_
            exact y_iret 258 Y dX6_pairTwo_258 rfl h
      · replace h := h.2 c
        refine y_iload 144 Y dX6_pairTwo_144 rfl ?_
        exact y_iret 146 Y dX6_pairTwo_146 rfl h
    · replace h := h.2 c
      refine y_aload_n 45 Y dX6_pairTwo_45 rfl ?_
      refine y_sipush 46 Y dX6_pairTwo_46 rfl ?_
      refine y_iload_n 49 Y dX6_pairTwo_49 rfl ?_
      refine y_iload 50 Y dX6_pairTwo_50 rfl ?_
      refine y_call 52 Y (as := [mi 3605, mi v4, mi v6]) [] dX6_pairTwo_52 rfl rfl rfl rfl rfl h (fun r S33 hq hI hr => ?_)
      obtain ⟨v34, rfl, h⟩ := Qi_ok hq
      replace h := h hI (mokI (hr _ rfl))
      clear hq hr
      refine y_istore 55 Y [some mt, some (mi a1), some (mi a2), some (mi v4), some (mi v6), some (mi 1), some (mi v8), some (mi v34)] dX6_pairTwo_55 rfl rfl ?_
      refine y_iload 57 Y dX6_pairTwo_57 rfl ?_
      refine y_if 59 65 Y dX6_pairTwo_59 rfl rfl (fun c => ?_) (fun c => ?_)
      · replace h := h.1 c
        refine y_aload_n 65 Y dX6_pairTwo_65 rfl ?_
        refine y_geta 66 Y 5 dX6_pairTwo_66 rfl rfl ?_
        refine y_iload 69 Y dX6_pairTwo_69 rfl ?_
        obtain ⟨o35, h⟩ := h
        obtain ⟨o36, h⟩ := h
        refine y_iald 71 Y dX6_pairTwo_71 rfl rfl o35 o36 (fun _ => ?_)
        refine y_if 72 86 Y dX6_pairTwo_72 rfl rfl (fun c => ?_) (fun c => ?_)
        · replace h := h.1 c
          refine y_aload_n 86 Y dX6_pairTwo_86 rfl ?_
          refine y_iload_n 87 Y dX6_pairTwo_87 rfl ?_
          refine y_aload_n 88 Y dX6_pairTwo_88 rfl ?_
          refine y_geta 89 Y 5 dX6_pairTwo_89 rfl rfl ?_
          refine y_iload 92 Y dX6_pairTwo_92 rfl ?_
          refine y_iald 94 Y dX6_pairTwo_94 rfl rfl o35 o36 (fun _ => ?_)
          refine y_call 95 Y (as := [mi v4, mi (S33 5 v8)]) [] dX6_pairTwo_95 rfl rfl rfl rfl rfl h (fun r S37 hq hI hr => ?_)
          obtain ⟨v38, rfl, h⟩ := Qi_ok hq
          replace h := h hI (mokI (hr _ rfl))
          clear hq hr
          refine y_istore 98 Y [some mt, some (mi a1), some (mi a2), some (mi v4), some (mi v6), some (mi v38), some (mi v8), some (mi v34)] dX6_pairTwo_98 rfl rfl ?_
          refine y_aload_n 100 Y dX6_pairTwo_100 rfl ?_
          refine y_iload_n 101 Y dX6_pairTwo_101 rfl ?_
          refine y_sipush 102 Y dX6_pairTwo_102 rfl ?_
          refine y_call 105 Y (as := [mi v4, mi 3605]) [] dX6_pairTwo_105 rfl rfl rfl rfl rfl h (fun r S39 hq hI _ => ?_)
          obtain ⟨rfl, h⟩ := Qv_ok hq
          replace h := h hI
          clear hq
          refine y_iload 108 Y dX6_pairTwo_108 rfl ?_
          refine y_if 110 117 Y dX6_pairTwo_110 rfl rfl (fun c => ?_) (fun c => ?_)
          · replace h := h.1 c
            refine y_iconst 117 Y dX6_pairTwo_117 rfl ?_
            exact y_iret 118 Y dX6_pairTwo_118 rfl h
          · replace h := h.2 c
            refine y_iconst 113 Y dX6_pairTwo_113 rfl ?_
            refine y_goto 114 118 Y dX6_pairTwo_114 rfl rfl ?_
            exact y_iret 118 Y dX6_pairTwo_118 rfl h
        · replace h := h.2 c
          refine y_aload_n 75 Y dX6_pairTwo_75 rfl ?_
          refine y_iload_n 76 Y dX6_pairTwo_76 rfl ?_
          refine y_iconst 77 Y dX6_pairTwo_77 rfl ?_
          obtain ⟨o40, h⟩ := h
          refine y_iadd 78 Y dX6_pairTwo_78 o40 ?_
          refine y_iconst 79 Y dX6_pairTwo_79 rfl ?_
          refine y_call 80 Y (as := [mi (v4 + 1), mi 0]) [] dX6_pairTwo_80 rfl rfl rfl rfl rfl h (fun r S41 hq hI _ => ?_)
          obtain ⟨rfl, h⟩ := Qv_ok hq
          replace h := h hI
          clear hq
          refine y_goto 83 100 Y dX6_pairTwo_83 rfl rfl ?_
          refine y_aload_n 100 Y dX6_pairTwo_100 rfl ?_
          refine y_iload_n 101 Y dX6_pairTwo_101 rfl ?_
          refine y_sipush 102 Y dX6_pairTwo_102 rfl ?_
          refine y_call 105 Y (as := [mi v4, mi 3605]) [] dX6_pairTwo_105 rfl rfl rfl rfl rfl h (fun r S42 hq hI _ => ?_)
          obtain ⟨rfl, h⟩ := Qv_ok hq
          replace h := h hI
          clear hq
          refine y_iload 108 Y dX6_pairTwo_108 rfl ?_
          refine y_if 110 117 Y dX6_pairTwo_110 rfl rfl (fun c => absurd c (show ¬ ((1 : Int) = 0) by decide)) (fun _ => ?_)
          refine y_iconst 113 Y dX6_pairTwo_113 rfl ?_
          refine y_goto 114 118 Y dX6_pairTwo_114 rfl rfl ?_
          exact y_iret 118 Y dX6_pairTwo_118 rfl h
      · replace h := h.2 c
        refine y_iload 62 Y dX6_pairTwo_62 rfl ?_
        exact y_iret 64 Y dX6_pairTwo_64 rfl h
  · intro n pc L st T hi
    exact hi.elim
set_option maxHeartbeats 4000000 in
theorem of_gather {g : mG} {S : mS} {a1 a2 : Int} {Qp : Option mV → mS → Prop} (I56 : Nat → Int → mS → Prop)
    (hE : mI S → (-2147483648 ≤ a1 ∧ a1 ≤ 2147483647) → (-2147483648 ≤ a2 ∧ a2 ≤ 2147483647) → CX_isTree g [mt, mi a1] S (Qi fun v2 S1 => mI S1 → (-2147483648 ≤ v2 ∧ v2 ≤ 2147483647) → ((v2 ≠ 0) → CX_isName g [mi a2] S1 (Qi fun v4 S3 => mI S3 → (-2147483648 ≤ v4 ∧ v4 ≤ 2147483647) → ((v4 ≠ 0) → CX_refused g [mt, mi 0, mi 0, mi 0] S3 (Qi fun v6 S5 => mI S5 → (-2147483648 ≤ v6 ∧ v6 ≤ 2147483647) → ((v6 = 0) → CX_shelf g [mi a1] (mup S5 68 0 0) (Qi fun v8 S7 => mI S7 → (-2147483648 ≤ v8 ∧ v8 ≤ 2147483647) → CX_gathers g [mt, mi v8, mi a2] S7 (Qi fun v10 S9 => mI S9 → (-2147483648 ≤ v10 ∧ v10 ≤ 2147483647) → ((v10 ≠ 0) → (∃ n1, I56 n1 0 S9)) ∧ (¬ (v10 ≠ 0) → Qp (some (mi (-1))) S9)))) ∧ (¬ (v6 = 0) → Qp (some (mi 0)) S5))) ∧ (¬ (v4 ≠ 0) → CX_refused g [mt, mi 0, mi 1, mi 0] S3 (Qi fun v12 S11 => mI S11 → (-2147483648 ≤ v12 ∧ v12 ≤ 2147483647) → ((v12 = 0) → CX_shelf g [mi a1] (mup S11 68 0 0) (Qi fun v14 S13 => mI S13 → (-2147483648 ≤ v14 ∧ v14 ≤ 2147483647) → CX_gathers g [mt, mi v14, mi a2] S13 (Qi fun v16 S15 => mI S15 → (-2147483648 ≤ v16 ∧ v16 ≤ 2147483647) → ((v16 ≠ 0) → (∃ n1, I56 n1 0 S15)) ∧ (¬ (v16 ≠ 0) → Qp (some (mi (-1))) S15)))) ∧ (¬ (v12 = 0) → Qp (some (mi 0)) S11))))) ∧ (¬ (v2 ≠ 0) → CX_isName g [mi a2] S1 (Qi fun v18 S17 => mI S17 → (-2147483648 ≤ v18 ∧ v18 ≤ 2147483647) → ((v18 ≠ 0) → CX_refused g [mt, mi 1, mi 0, mi 0] S17 (Qi fun v20 S19 => mI S19 → (-2147483648 ≤ v20 ∧ v20 ≤ 2147483647) → ((v20 = 0) → CX_shelf g [mi a1] (mup S19 68 0 0) (Qi fun v22 S21 => mI S21 → (-2147483648 ≤ v22 ∧ v22 ≤ 2147483647) → CX_gathers g [mt, mi v22, mi a2] S21 (Qi fun v24 S23 => mI S23 → (-2147483648 ≤ v24 ∧ v24 ≤ 2147483647) → ((v24 ≠ 0) → (∃ n1, I56 n1 0 S23)) ∧ (¬ (v24 ≠ 0) → Qp (some (mi (-1))) S23)))) ∧ (¬ (v20 = 0) → Qp (some (mi 0)) S19))) ∧ (¬ (v18 ≠ 0) → CX_refused g [mt, mi 1, mi 1, mi 0] S17 (Qi fun v26 S25 => mI S25 → (-2147483648 ≤ v26 ∧ v26 ≤ 2147483647) → ((v26 = 0) → CX_shelf g [mi a1] (mup S25 68 0 0) (Qi fun v28 S27 => mI S27 → (-2147483648 ≤ v28 ∧ v28 ≤ 2147483647) → CX_gathers g [mt, mi v28, mi a2] S27 (Qi fun v30 S29 => mI S29 → (-2147483648 ≤ v30 ∧ v30 ≤ 2147483647) → ((v30 ≠ 0) → (∃ n1, I56 n1 0 S29)) ∧ (¬ (v30 ≠ 0) → Qp (some (mi (-1))) S29)))) ∧ (¬ (v26 = 0) → Qp (some (mi 0)) S25)))))))
    (h56 : ∀ (n : Nat) (l3 : Int) (T : mS), mI T → (-2147483648 ≤ l3 ∧ l3 ≤ 2147483647) → I56 n l3 T → ((9 ≤ l3) → CX_degreeOf g [mt, mi 0] T (Qi fun v2 S1 => mI S1 → (-2147483648 ≤ v2 ∧ v2 ≤ 2147483647) → Qp (some (mi v2)) S1)) ∧ (¬ (9 ≤ l3) → (-2147483648 ≤ ((47 + l3) : Int) ∧ (47 + l3) ≤ 2147483647) ∧ CX_coefficientAt g [mi 0, mi l3] T (Qi fun v5 S4 => mI S4 → (-2147483648 ≤ v5 ∧ v5 ≤ 2147483647) → CX_copyValue g [mt, mi (47 + l3), mi v5] S4 (Qv fun S6 => mI S6 → (-2147483648 ≤ ((l3 + 1) : Int) ∧ (l3 + 1) ≤ 2147483647) ∧ (∃ n1, n1 < n ∧ I56 n1 (l3 + 1) S6)))))
    : CX_gather g [mt, mi a1, mi a2] S Qp := by
  refine cm_y ⟨by decide, rfl⟩ (by simp [mcat]) (by simp) (fun n pc L st S => (pc = 56 ∧ ∃ (l3 : Int), L = [some mt, none, none, some (mi l3)] ∧ st = [] ∧ I56 n l3 S)) ?_ ?_
  · intro ha hS P Y Wk hIc
    have h := hE hS (mokI (ha (mi a1) (by simp))) (mokI (ha (mi a2) (by simp)))
    clear hE ha h56
    refine y_aload_n 0 Y dX6_gather_0 rfl ?_
    refine y_aload_n 1 Y dX6_gather_1 rfl ?_
    refine y_iload_n 2 Y dX6_gather_2 rfl ?_
    refine y_call 3 Y (as := [mi a1]) [mt] dX6_gather_3 rfl rfl rfl rfl rfl h (fun r S1 hq hI hr => ?_)
    obtain ⟨v2, rfl, h⟩ := Qi_ok hq
    replace h := h hI (mokI (hr _ rfl))
    clear hq hr
    refine y_if 6 13 Y dX6_gather_6 rfl rfl (fun c => ?_) (fun c => ?_)
    · replace h := h.1 c
      refine y_iconst 13 Y dX6_gather_13 rfl ?_
      refine y_iload_n 14 Y dX6_gather_14 rfl ?_
      refine y_calls 15 Y (as := [mi a2]) [mi 0, mt] dX6_gather_15 rfl rfl rfl rfl rfl h (fun r S3 hq hI hr => ?_)
      obtain ⟨v4, rfl, h⟩ := Qi_ok hq
      replace h := h hI (mokI (hr _ rfl))
      clear hq hr
      refine y_if 18 25 Y dX6_gather_18 rfl rfl (fun c => ?_) (fun c => ?_)
      · replace h := h.1 c
        refine y_iconst 25 Y dX6_gather_25 rfl ?_
        refine y_iconst 26 Y dX6_gather_26 rfl ?_
        refine y_call 27 Y (as := [mi 0, mi 0, mi 0]) [] dX6_gather_27 rfl rfl rfl rfl rfl h (fun r S5 hq hI hr => ?_)
        obtain ⟨v6, rfl, h⟩ := Qi_ok hq
        replace h := h hI (mokI (hr _ rfl))
        clear hq hr
        refine y_if 30 35 Y dX6_gather_30 rfl rfl (fun c => ?_) (fun c => ?_)
        · replace h := h.1 c
          refine y_aload_n 35 Y dX6_gather_35 rfl ?_
          refine y_iconst 36 Y dX6_gather_36 rfl ?_
          refine y_putf 37 Y 68 dX6_gather_37 rfl rfl (fun q => absurd q (by decide)) ?_
          refine y_aload_n 40 Y dX6_gather_40 rfl ?_
          refine y_iload_n 41 Y dX6_gather_41 rfl ?_
          refine y_calls 42 Y (as := [mi a1]) [mt] dX6_gather_42 rfl rfl rfl rfl rfl h (fun r S7 hq hI hr => ?_)
          obtain ⟨v8, rfl, h⟩ := Qi_ok hq
          replace h := h hI (mokI (hr _ rfl))
          clear hq hr
          refine y_iload_n 45 Y dX6_gather_45 rfl ?_
          refine y_call 46 Y (as := [mi v8, mi a2]) [] dX6_gather_46 rfl rfl rfl rfl rfl h (fun r S9 hq hI hr => ?_)
          obtain ⟨v10, rfl, h⟩ := Qi_ok hq
          replace h := h hI (mokI (hr _ rfl))
          clear hq hr
          refine y_if 49 54 Y dX6_gather_49 rfl rfl (fun c => ?_) (fun c => ?_)
          · replace h := h.1 c
            refine y_iconst 54 Y dX6_gather_54 rfl ?_
            refine y_istore_n 55 Y [some mt, some (mi a1), some (mi a2), some (mi 0)] dX6_gather_55 rfl rfl ?_
            obtain ⟨n1, h⟩ := h
            exact Wk 56 _ [some mt, none, none, some (mi 0)] _ _ ⟨rfl, ⟨rfl, trivial⟩⟩ (hIc n1 _ _ _ _ ((⟨rfl, _, rfl, rfl, h⟩)))
          · replace h := h.2 c
            refine y_iconst 52 Y dX6_gather_52 rfl ?_
            exact y_iret 53 Y dX6_gather_53 rfl h
        · replace h := h.2 c
          refine y_iconst 33 Y dX6_gather_33 rfl ?_
          exact y_iret 34 Y dX6_gather_34 rfl h
      · replace h := h.2 c
        refine y_iconst 21 Y dX6_gather_21 rfl ?_
        refine y_goto 22 26 Y dX6_gather_22 rfl rfl ?_
        refine y_iconst 26 Y dX6_gather_26 rfl ?_
        refine y_call 27 Y (as := [mi 0, mi 1, mi 0]) [] dX6_gather_27 rfl rfl rfl rfl rfl h (fun r S11 hq hI hr => ?_)
        obtain ⟨v12, rfl, h⟩ := Qi_ok hq
        replace h := h hI (mokI (hr _ rfl))
        clear hq hr
        refine y_if 30 35 Y dX6_gather_30 rfl rfl (fun c => ?_) (fun c => ?_)
        · replace h := h.1 c
          refine y_aload_n 35 Y dX6_gather_35 rfl ?_
          refine y_iconst 36 Y dX6_gather_36 rfl ?_
          refine y_putf 37 Y 68 dX6_gather_37 rfl rfl (fun q => absurd q (by decide)) ?_
          refine y_aload_n 40 Y dX6_gather_40 rfl ?_
          refine y_iload_n 41 Y dX6_gather_41 rfl ?_
          refine y_calls 42 Y (as := [mi a1]) [mt] dX6_gather_42 rfl rfl rfl rfl rfl h (fun r S13 hq hI hr => ?_)
          obtain ⟨v14, rfl, h⟩ := Qi_ok hq
          replace h := h hI (mokI (hr _ rfl))
          clear hq hr
          refine y_iload_n 45 Y dX6_gather_45 rfl ?_
          refine y_call 46 Y (as := [mi v14, mi a2]) [] dX6_gather_46 rfl rfl rfl rfl rfl h (fun r S15 hq hI hr => ?_)
          obtain ⟨v16, rfl, h⟩ := Qi_ok hq
          replace h := h hI (mokI (hr _ rfl))
          clear hq hr
          refine y_if 49 54 Y dX6_gather_49 rfl rfl (fun c => ?_) (fun c => ?_)
          · replace h := h.1 c
            refine y_iconst 54 Y dX6_gather_54 rfl ?_
            refine y_istore_n 55 Y [some mt, some (mi a1), some (mi a2), some (mi 0)] dX6_gather_55 rfl rfl ?_
            obtain ⟨n1, h⟩ := h
            exact Wk 56 _ [some mt, none, none, some (mi 0)] _ _ ⟨rfl, ⟨rfl, trivial⟩⟩ (hIc n1 _ _ _ _ ((⟨rfl, _, rfl, rfl, h⟩)))
          · replace h := h.2 c
            refine y_iconst 52 Y dX6_gather_52 rfl ?_
            exact y_iret 53 Y dX6_gather_53 rfl h
        · replace h := h.2 c
          refine y_iconst 33 Y dX6_gather_33 rfl ?_
          exact y_iret 34 Y dX6_gather_34 rfl h
    · replace h := h.2 c
      refine y_iconst 9 Y dX6_gather_9 rfl ?_
      refine y_goto 10 14 Y dX6_gather_10 rfl rfl ?_
      refine y_iload_n 14 Y dX6_gather_14 rfl ?_
      refine y_calls 15 Y (as := [mi a2]) [mi 1, mt] dX6_gather_15 rfl rfl rfl rfl rfl h (fun r S17 hq hI hr => ?_)
      obtain ⟨v18, rfl, h⟩ := Qi_ok hq
      replace h := h hI (mokI (hr _ rfl))
      clear hq hr
      refine y_if 18 25 Y dX6_gather_18 rfl rfl (fun c => ?_) (fun c => ?_)
      · replace h := h.1 c
        refine y_iconst 25 Y dX6_gather_25 rfl ?_
        refine y_iconst 26 Y dX6_gather_26 rfl ?_
        refine y_call 27 Y (as := [mi 1, mi 0, mi 0]) [] dX6_gather_27 rfl rfl rfl rfl rfl h (fun r S19 hq hI hr => ?_)
        obtain ⟨v20, rfl, h⟩ := Qi_ok hq
        replace h := h hI (mokI (hr _ rfl))
        clear hq hr
        refine y_if 30 35 Y dX6_gather_30 rfl rfl (fun c => ?_) (fun c => ?_)
        · replace h := h.1 c
          refine y_aload_n 35 Y dX6_gather_35 rfl ?_
          refine y_iconst 36 Y dX6_gather_36 rfl ?_
          refine y_putf 37 Y 68 dX6_gather_37 rfl rfl (fun q => absurd q (by decide)) ?_
          refine y_aload_n 40 Y dX6_gather_40 rfl ?_
          refine y_iload_n 41 Y dX6_gather_41 rfl ?_
          refine y_calls 42 Y (as := [mi a1]) [mt] dX6_gather_42 rfl rfl rfl rfl rfl h (fun r S21 hq hI hr => ?_)
          obtain ⟨v22, rfl, h⟩ := Qi_ok hq
          replace h := h hI (mokI (hr _ rfl))
          clear hq hr
          refine y_iload_n 45 Y dX6_gather_45 rfl ?_
          refine y_call 46 Y (as := [mi v22, mi a2]) [] dX6_gather_46 rfl rfl rfl rfl rfl h (fun r S23 hq hI hr => ?_)
          obtain ⟨v24, rfl, h⟩ := Qi_ok hq
          replace h := h hI (mokI (hr _ rfl))
          clear hq hr
          refine y_if 49 54 Y dX6_gather_49 rfl rfl (fun c => ?_) (fun c => ?_)
          · replace h := h.1 c
            refine y_iconst 54 Y dX6_gather_54 rfl ?_
            refine y_istore_n 55 Y [some mt, some (mi a1), some (mi a2), some (mi 0)] dX6_gather_55 rfl rfl ?_
            obtain ⟨n1, h⟩ := h
            exact Wk 56 _ [some mt, none, none, some (mi 0)] _ _ ⟨rfl, ⟨rfl, trivial⟩⟩ (hIc n1 _ _ _ _ ((⟨rfl, _, rfl, rfl, h⟩)))
          · replace h := h.2 c
            refine y_iconst 52 Y dX6_gather_52 rfl ?_
            exact y_iret 53 Y dX6_gather_53 rfl h
        · replace h := h.2 c
          refine y_iconst 33 Y dX6_gather_33 rfl ?_
          exact y_iret 34 Y dX6_gather_34 rfl h
      · replace h := h.2 c
        refine y_iconst 21 Y dX6_gather_21 rfl ?_
        refine y_goto 22 26 Y dX6_gather_22 rfl rfl ?_
        refine y_iconst 26 Y dX6_gather_26 rfl ?_
        refine y_call 27 Y (as := [mi 1, mi 1, mi 0]) [] dX6_gather_27 rfl rfl rfl rfl rfl h (fun r S25 hq hI hr => ?_)
        obtain ⟨v26, rfl, h⟩ := Qi_ok hq
        replace h := h hI (mokI (hr _ rfl))
        clear hq hr
        refine y_if 30 35 Y dX6_gather_30 rfl rfl (fun c => ?_) (fun c => ?_)
        · replace h := h.1 c
          refine y_aload_n 35 Y dX6_gather_35 rfl ?_
          refine y_iconst 36 Y dX6_gather_36 rfl ?_
          refine y_putf 37 Y 68 dX6_gather_37 rfl rfl (fun q => absurd q (by decide)) ?_
          refine y_aload_n 40 Y dX6_gather_40 rfl ?_
          refine y_iload_n 41 Y dX6_gather_41 rfl ?_
          refine y_calls 42 Y (as := [mi a1]) [mt] dX6_gather_42 rfl rfl rfl rfl rfl h (fun r S27 hq hI hr => ?_)
          obtain ⟨v28, rfl, h⟩ := Qi_ok hq
          replace h := h hI (mokI (hr _ rfl))
          clear hq hr
          refine y_iload_n 45 Y dX6_gather_45 rfl ?_
          refine y_call 46 Y (as := [mi v28, mi a2]) [] dX6_gather_46 rfl rfl rfl rfl rfl h (fun r S29 hq hI hr => ?_)
          obtain ⟨v30, rfl, h⟩ := Qi_ok hq
          replace h := h hI (mokI (hr _ rfl))
          clear hq hr
          refine y_if 49 54 Y dX6_gather_49 rfl rfl (fun c => ?_) (fun c => ?_)
          · replace h := h.1 c
            refine y_iconst 54 Y dX6_gather_54 rfl ?_
            refine y_istore_n 55 Y [some mt, some (mi a1), some (mi a2), some (mi 0)] dX6_gather_55 rfl rfl ?_
            obtain ⟨n1, h⟩ := h
            exact Wk 56 _ [some mt, none, none, some (mi 0)] _ _ ⟨rfl, ⟨rfl, trivial⟩⟩ (hIc n1 _ _ _ _ ((⟨rfl, _, rfl, rfl, h⟩)))
          · replace h := h.2 c
            refine y_iconst 52 Y dX6_gather_52 rfl ?_
            exact y_iret 53 Y dX6_gather_53 rfl h
        · replace h := h.2 c
          refine y_iconst 33 Y dX6_gather_33 rfl ?_
          exact y_iret 34 Y dX6_gather_34 rfl h
  · intro n pc L st T hi hS hL P Y Wk hIc
    clear hE
    rcases hi with ⟨rfl, l3, rfl, rfl, hi⟩
    · have h := h56 n l3 T hS (hL 3 _ rfl) hi
      clear hL hi h56
      refine y_iload_n 56 Y dX6_gather_56 rfl ?_
      refine y_bipush 57 Y dX6_gather_57 rfl ?_
      refine y_icmp 59 81 Y dX6_gather_59 rfl rfl (fun c => ?_) (fun c => ?_)
      · replace h := h.1 c
        refine y_aload_n 81 Y dX6_gather_81 rfl ?_
        refine y_iconst 82 Y dX6_gather_82 rfl ?_
        refine y_call 83 Y (as := [mi 0]) [] dX6_gather_83 rfl rfl rfl rfl rfl h (fun r S1 hq hI hr => ?_)
        obtain ⟨v2, rfl, h⟩ := Qi_ok hq
        replace h := h hI (mokI (hr _ rfl))
        clear hq hr
        exact y_iret 86 Y dX6_gather_86 rfl h
      · replace h := h.2 c
        refine y_aload_n 62 Y dX6_gather_62 rfl ?_
        refine y_bipush 63 Y dX6_gather_63 rfl ?_
        refine y_iload_n 65 Y dX6_gather_65 rfl ?_
        obtain ⟨o3, h⟩ := h
        refine y_iadd 66 Y dX6_gather_66 o3 ?_
        refine y_iconst 67 Y dX6_gather_67 rfl ?_
        refine y_iload_n 68 Y dX6_gather_68 rfl ?_
        refine y_calls 69 Y (as := [mi 0, mi l3]) [mi (47 + l3), mt] dX6_gather_69 rfl rfl rfl rfl rfl h (fun r S4 hq hI hr => ?_)
        obtain ⟨v5, rfl, h⟩ := Qi_ok hq
        replace h := h hI (mokI (hr _ rfl))
        clear hq hr
        refine y_call 72 Y (as := [mi (47 + l3), mi v5]) [] dX6_gather_72 rfl rfl rfl rfl rfl h (fun r S6 hq hI _ => ?_)
        obtain ⟨rfl, h⟩ := Qv_ok hq
        replace h := h hI
        clear hq
        obtain ⟨o7, h⟩ := h
        refine y_iinc 75 Y [some mt, none, none, some (mi (l3 + 1))] dX6_gather_75 rfl rfl o7 ?_
        refine y_goto 78 56 Y dX6_gather_78 rfl rfl ?_
        obtain ⟨n1, hn, h⟩ := h
        exact Wk 56 _ [some mt, none, none, some (mi (l3 + 1))] _ _ ⟨rfl, ⟨rfl, trivial⟩⟩ (hIc n1 _ _ _ _ hn ((⟨rfl, _, rfl, rfl, h⟩)))
set_option maxHeartbeats 4000000 in
theorem of_pairNode {g : mG} {S : mS} {a1 a2 : Int} {Qp : Option mV → mS → Prop}
    (hE : mI S → (-2147483648 ≤ a1 ∧ a1 ≤ 2147483647) → (-2147483648 ≤ a2 ∧ a2 ≤ 2147483647) → (0 ≤ a1) ∧ (a1 < 20300) ∧ (((S 4 a1) ≠ 3) → (((S 4 a1) ≠ 3) → (((S 4 a1) ≠ 1) → CX_valueAt g [mi (S 76 0)] S (Qi fun v4 S3 => mI S3 → (-2147483648 ≤ v4 ∧ v4 ≤ 2147483647) → CX_setInt g [mt, mi v4, mi (S3 5 a1)] S3 (Qv fun S5 => mI S5 → CX_partAt g [mi (S5 76 0)] S5 (Qi fun v7 S6 => mI S6 → (-2147483648 ≤ v7 ∧ v7 ≤ 2147483647) → CX_setInt g [mt, mi v7, mi 0] S6 (Qv fun S8 => mI S8 → (-2147483648 ≤ (((S8 76 0) + 1) : Int) ∧ ((S8 76 0) + 1) ≤ 2147483647) ∧ Qp (some (mi 0)) (mup S8 76 0 ((S8 76 0) + 1))))))) ∧ (¬ ((S 4 a1) ≠ 1) → (-2147483648 ≤ (((S 5 a1) - 97) : Int) ∧ ((S 5 a1) - 97) ≤ 2147483647) ∧ (0 ≤ ((S 5 a1) - 97)) ∧ (((S 5 a1) - 97) < 26) ∧ (((S 47 ((S 5 a1) - 97)) ≠ 0) → CX_valueAt g [mi (S 76 0)] S (Qi fun v14 S13 => mI S13 → (-2147483648 ≤ v14 ∧ v14 ≤ 2147483647) → (-2147483648 ≤ (((S13 5 a1) - 97) : Int) ∧ ((S13 5 a1) - 97) ≤ 2147483647) ∧ CX_copyValue g [mt, mi v14, mi ((S13 5 a1) - 97)] S13 (Qv fun S16 => mI S16 → CX_partAt g [mi (S16 76 0)] S16 (Qi fun v18 S17 => mI S17 → (-2147483648 ≤ v18 ∧ v18 ≤ 2147483647) → (((S17 5 a1) ≠ a2) → CX_setInt g [mt, mi v18, mi 0] S17 (Qv fun S19 => mI S19 → (-2147483648 ≤ (((S19 76 0) + 1) : Int) ∧ ((S19 76 0) + 1) ≤ 2147483647) ∧ Qp (some (mi 0)) (mup S19 76 0 ((S19 76 0) + 1)))) ∧ (¬ ((S17 5 a1) ≠ a2) → CX_setInt g [mt, mi v18, mi 1] S17 (Qv fun S21 => mI S21 → (-2147483648 ≤ (((S21 76 0) + 1) : Int) ∧ ((S21 76 0) + 1) ≤ 2147483647) ∧ Qp (some (mi 0)) (mup S21 76 0 ((S21 76 0) + 1)))))))) ∧ (¬ ((S 47 ((S 5 a1) - 97)) ≠ 0) → Qp (some (mi 4)) S))) ∧ (¬ ((S 4 a1) ≠ 3) → (-2147483648 ≤ (((S 76 0) - 1) : Int) ∧ ((S 76 0) - 1) ≤ 2147483647) ∧ CX_valueAt g [mi ((S 76 0) - 1)] S (Qi fun v25 S24 => mI S24 → (-2147483648 ≤ v25 ∧ v25 ≤ 2147483647) → (-2147483648 ≤ ((28 * v25) : Int) ∧ (28 * v25) ≤ 2147483647) ∧ (-2147483648 ≤ (((S24 76 0) - 1) : Int) ∧ ((S24 76 0) - 1) ≤ 2147483647) ∧ CX_valueAt g [mi ((S24 76 0) - 1)] S24 (Qi fun v29 S28 => mI S28 → (-2147483648 ≤ v29 ∧ v29 ≤ 2147483647) → CX_sign_2 g [mt, mi v29] S28 (Qi fun v31 S30 => mI S30 → (-2147483648 ≤ v31 ∧ v31 ≤ 2147483647) → (-2147483648 ≤ ((-v31) : Int) ∧ (-v31) ≤ 2147483647) ∧ (0 ≤ (28 * v25)) ∧ ((28 * v25) < 104160) ∧ (-2147483648 ≤ (((S30 76 0) - 1) : Int) ∧ ((S30 76 0) - 1) ≤ 2147483647) ∧ CX_partAt g [mi ((S30 76 0) - 1)] (mup S30 3 (28 * v25) (-v31)) (Qi fun v37 S36 => mI S36 → (-2147483648 ≤ v37 ∧ v37 ≤ 2147483647) → (-2147483648 ≤ ((28 * v37) : Int) ∧ (28 * v37) ≤ 2147483647) ∧ (-2147483648 ≤ (((S36 76 0) - 1) : Int) ∧ ((S36 76 0) - 1) ≤ 2147483647) ∧ CX_partAt g [mi ((S36 76 0) - 1)] S36 (Qi fun v41 S40 => mI S40 → (-2147483648 ≤ v41 ∧ v41 ≤ 2147483647) → CX_sign_2 g [mt, mi v41] S40 (Qi fun v43 S42 => mI S42 → (-2147483648 ≤ v43 ∧ v43 ≤ 2147483647) → (-2147483648 ≤ ((-v43) : Int) ∧ (-v43) ≤ 2147483647) ∧ (0 ≤ (28 * v37)) ∧ ((28 * v37) < 104160) ∧ Qp (some (mi 0)) (mup S42 3 (28 * v37) (-v43)))))))))) ∧ (¬ ((S 4 a1) ≠ 3) → (((S 7 a1) ≠ 2) → (((S 4 a1) ≠ 3) → (((S 4 a1) ≠ 1) → CX_valueAt g [mi (S 76 0)] S (Qi fun v48 S47 => mI S47 → (-2147483648 ≤ v48 ∧ v48 ≤ 2147483647) → CX_setInt g [mt, mi v48, mi (S47 5 a1)] S47 (Qv fun S49 => mI S49 → CX_partAt g [mi (S49 76 0)] S49 (Qi fun v51 S50 => mI S50 → (-2147483648 ≤ v51 ∧ v51 ≤ 2147483647) → CX_setInt g [mt, mi v51, mi 0] S50 (Qv fun S52 => mI S52 → (-2147483648 ≤ (((S52 76 0) + 1) : Int) ∧ ((S52 76 0) + 1) ≤ 2147483647) ∧ Qp (some (mi 0)) (mup S52 76 0 ((S52 76 0) + 1))))))) ∧ (¬ ((S 4 a1) ≠ 1) → (-2147483648 ≤ (((S 5 a1) - 97) : Int) ∧ ((S 5 a1) - 97) ≤ 2147483647) ∧ (0 ≤ ((S 5 a1) - 97)) ∧ (((S 5 a1) - 97) < 26) ∧ (((S 47 ((S 5 a1) - 97)) ≠ 0) → CX_valueAt g [mi (S 76 0)] S (Qi fun v58 S57 => mI S57 → (-2147483648 ≤ v58 ∧ v58 ≤ 2147483647) → (-2147483648 ≤ (((S57 5 a1) - 97) : Int) ∧ ((S57 5 a1) - 97) ≤ 2147483647) ∧ CX_copyValue g [mt, mi v58, mi ((S57 5 a1) - 97)] S57 (Qv fun S60 => mI S60 → CX_partAt g [mi (S60 76 0)] S60 (Qi fun v62 S61 => mI S61 → (-2147483648 ≤ v62 ∧ v62 ≤ 2147483647) → (((S61 5 a1) ≠ a2) → CX_setInt g [mt, mi v62, mi 0] S61 (Qv fun S63 => mI S63 → (-2147483648 ≤ (((S63 76 0) + 1) : Int) ∧ ((S63 76 0) + 1) ≤ 2147483647) ∧ Qp (some (mi 0)) (mup S63 76 0 ((S63 76 0) + 1)))) ∧ (¬ ((S61 5 a1) ≠ a2) → CX_setInt g [mt, mi v62, mi 1] S61 (Qv fun S65 => mI S65 → (-2147483648 ≤ (((S65 76 0) + 1) : Int) ∧ ((S65 76 0) + 1) ≤ 2147483647) ∧ Qp (some (mi 0)) (mup S65 76 0 ((S65 76 0) + 1)))))))) ∧ (¬ ((S 47 ((S 5 a1) - 97)) ≠ 0) → Qp (some (mi 4)) S))) ∧ (¬ ((S 4 a1) ≠ 3) → (-2147483648 ≤ (((S 76 0) - 1) : Int) ∧ ((S 76 0) - 1) ≤ 2147483647) ∧ CX_valueAt g [mi ((S 76 0) - 1)] S (Qi fun v69 S68 => mI S68 → (-2147483648 ≤ v69 ∧ v69 ≤ 2147483647) → (-2147483648 ≤ ((28 * v69) : Int) ∧ (28 * v69) ≤ 2147483647) ∧ (-2147483648 ≤ (((S68 76 0) - 1) : Int) ∧ ((S68 76 0) - 1) ≤ 2147483647) ∧ CX_valueAt g [mi ((S68 76 0) - 1)] S68 (Qi fun v73 S72 => mI S72 → (-2147483648 ≤ v73 ∧ v73 ≤ 2147483647) → CX_sign_2 g [mt, mi v73] S72 (Qi fun v75 S74 => mI S74 → (-2147483648 ≤ v75 ∧ v75 ≤ 2147483647) → (-2147483648 ≤ ((-v75) : Int) ∧ (-v75) ≤ 2147483647) ∧ (0 ≤ (28 * v69)) ∧ ((28 * v69) < 104160) ∧ (-2147483648 ≤ (((S74 76 0) - 1) : Int) ∧ ((S74 76 0) - 1) ≤ 2147483647) ∧ CX_partAt g [mi ((S74 76 0) - 1)] (mup S74 3 (28 * v69) (-v75)) (Qi fun v81 S80 => mI S80 → (-2147483648 ≤ v81 ∧ v81 ≤ 2147483647) → (-2147483648 ≤ ((28 * v81) : Int) ∧ (28 * v81) ≤ 2147483647) ∧ (-2147483648 ≤ (((S80 76 0) - 1) : Int) ∧ ((S80 76 0) - 1) ≤ 2147483647) ∧ CX_partAt g [mi ((S80 76 0) - 1)] S80 (Qi fun v85 S84 => mI S84 → (-2147483648 ≤ v85 ∧ v85 ≤ 2147483647) → CX_sign_2 g [mt, mi v85] S84 (Qi fun v87 S86 => mI S86 → (-2147483648 ≤ v87 ∧ v87 ≤ 2147483647) → (-2147483648 ≤ ((-v87) : Int) ∧ (-v87) ≤ 2147483647) ∧ (0 ≤ (28 * v81)) ∧ ((28 * v81) < 104160) ∧ Qp (some (mi 0)) (mup S86 3 (28 * v81) (-v87)))))))))) ∧ (¬ ((S 7 a1) ≠ 2) → CX_meaningAt g [mt, mi a1] S (Qi fun v92 S91 => mI S91 → (-2147483648 ≤ v92 ∧ v92 ≤ 2147483647) → CX_pairTwo g [mt, mi a1, mi v92] S91 (Qi fun v94 S93 => mI S93 → (-2147483648 ≤ v94 ∧ v94 ≤ 2147483647) → Qp (some (mi v94)) S93)))))
    : CX_pairNode g [mt, mi a1, mi a2] S Qp := by
  refine cm_y ⟨by decide, rfl⟩ (by simp [mcat]) (by simp) (fun _ _ _ _ _ => False) ?_ ?_
  · intro ha hS P Y Wk hIc
    have h := hE hS (mokI (ha (mi a1) (by simp))) (mokI (ha (mi a2) (by simp)))
    clear hE ha
    refine y_aload_n 0 Y dX6_pairNode_0 rfl ?_
    refine y_geta 1 Y 4 dX6_pairNode_1 rfl rfl ?_
    refine y_iload_n 4 Y dX6_pairNode_4 rfl ?_
    obtain ⟨o1, h⟩ := h
    obtain ⟨o2, h⟩ := h
    refine y_iald 5 Y dX6_pairNode_5 rfl rfl o1 o2 (fun _ => ?_)
    refine y_iconst 6 Y dX6_pairNode_6 rfl ?_
    refine y_icmp 7 31 Y dX6_pairNode_7 rfl rfl (fun c => ?_) (fun c => ?_)
    · replace h := h.1 c
      refine y_aload_n 31 Y dX6_pairNode_31 rfl ?_
      refine y_geta 32 Y 4 dX6_pairNode_32 rfl rfl ?_
      refine y_iload_n 35 Y dX6_pairNode_35 rfl ?_
      refine y_iald 36 Y dX6_pairNode_36 rfl rfl o1 o2 (fun _ => ?_)
      refine y_iconst 37 Y dX6_pairNode_37 rfl ?_
      refine y_icmp 38 105 Y dX6_pairNode_38 rfl rfl (fun c => ?_) (fun c => ?_)
      · replace h := h.1 c
        refine y_aload_n 105 Y dX6_pairNode_105 rfl ?_
        refine y_geta 106 Y 4 dX6_pairNode_106 rfl rfl ?_
        refine y_iload_n 109 Y dX6_pairNode_109 rfl ?_
        refine y_iald 110 Y dX6_pairNode_110 rfl rfl o1 o2 (fun _ => ?_)
        refine y_iconst 111 Y dX6_pairNode_111 rfl ?_
        refine y_icmp 112 119 Y dX6_pairNode_112 rfl rfl (fun c => ?_) (fun c => ?_)
        · replace h := h.1 c
          refine y_iconst 119 Y dX6_pairNode_119 rfl ?_
          refine y_istore_n 120 Y [some mt, some (mi a1), some (mi a2), some (mi 0)] dX6_pairNode_120 rfl rfl ?_
          refine y_iload_n 121 Y dX6_pairNode_121 rfl ?_
          refine y_if 122 144 Y dX6_pairNode_122 rfl rfl (fun _ => ?_) (fun c => absurd (show (0 : Int) = 0 by decide) c)
          refine y_iload_n 144 Y dX6_pairNode_144 rfl ?_
          refine y_if 145 171 Y dX6_pairNode_145 rfl rfl (fun _ => ?_) (fun c => absurd (show (0 : Int) = 0 by decide) c)
          refine y_aload_n 171 Y dX6_pairNode_171 rfl ?_
          refine y_aload_n 172 Y dX6_pairNode_172 rfl ?_
          refine y_getf 173 Y 76 dX6_pairNode_173 rfl rfl (fun _ => ?_)
          refine y_calls 176 Y (as := [mi (S 76 0)]) [mt] dX6_pairNode_176 rfl rfl rfl rfl rfl h (fun r S3 hq hI hr => ?_)
          obtain ⟨v4, rfl, h⟩ := Qi_ok hq
          replace h := h hI (mokI (hr _ rfl))
          clear hq hr
          refine y_aload_n 179 Y dX6_pairNode_179 rfl ?_
          refine y_geta 180 Y 5 dX6_pairNode_180 rfl rfl ?_
          refine y_iload_n 183 Y dX6_pairNode_183 rfl ?_
          refine y_iald 184 Y dX6_pairNode_184 rfl rfl o1 o2 (fun _ => ?_)
          refine y_call 185 Y (as := [mi v4, mi (S3 5 a1)]) [] dX6_pairNode_185 rfl rfl rfl rfl rfl h (fun r S5 hq hI _ => ?_)
          obtain ⟨rfl, h⟩ := Qv_ok hq
          replace h := h hI
          clear hq
          refine y_aload_n 188 Y dX6_pairNode_188 rfl ?_
          refine y_aload_n 189 Y dX6_pairNode_189 rfl ?_
          refine y_getf 190 Y 76 dX6_pairNode_190 rfl rfl (fun _ => ?_)
          refine y_calls 193 Y (as := [mi (S5 76 0)]) [mt] dX6_pairNode_193 rfl rfl rfl rfl rfl h (fun r S6 hq hI hr => ?_)
          obtain ⟨v7, rfl, h⟩ := Qi_ok hq
          replace h := h hI (mokI (hr _ rfl))
          clear hq hr
          refine y_iload_n 196 Y dX6_pairNode_196 rfl ?_
          refine y_if 197 214 Y dX6_pairNode_197 rfl rfl (fun _ => ?_) (fun c => absurd (show (0 : Int) = 0 by decide) c)
          refine y_iconst 214 Y dX6_pairNode_214 rfl ?_
          refine y_call 215 Y (as := [mi v7, mi 0]) [] dX6_pairNode_215 rfl rfl rfl rfl rfl h (fun r S8 hq hI _ => ?_)
          obtain ⟨rfl, h⟩ := Qv_ok hq
          replace h := h hI
          clear hq
          refine y_aload_n 218 Y dX6_pairNode_218 rfl ?_
          refine y_dup 219 Y dX6_pairNode_219 rfl ?_
          refine y_getf 220 Y 76 dX6_pairNode_220 rfl rfl (fun _ => ?_)
          refine y_iconst 223 Y dX6_pairNode_223 rfl ?_
          obtain ⟨o9, h⟩ := h
          refine y_iadd 224 Y dX6_pairNode_224 o9 ?_
          refine y_putf 225 Y 76 dX6_pairNode_225 rfl rfl (fun q => absurd q (by decide)) ?_
          refine y_iconst 228 Y dX6_pairNode_228 rfl ?_
          exact y_iret 229 Y dX6_pairNode_229 rfl h
        · replace h := h.2 c
          refine y_iconst 115 Y dX6_pairNode_115 rfl ?_
          refine y_goto 116 120 Y dX6_pairNode_116 rfl rfl ?_
          refine y_istore_n 120 Y [some mt, some (mi a1), some (mi a2), some (mi 1)] dX6_pairNode_120 rfl rfl ?_
          refine y_iload_n 121 Y dX6_pairNode_121 rfl ?_
          refine y_if 122 144 Y dX6_pairNode_122 rfl rfl (fun c => absurd c (show ¬ ((1 : Int) = 0) by decide)) (fun _ => ?_)
          refine y_aload_n 125 Y dX6_pairNode_125 rfl ?_
          refine y_geta 126 Y 47 dX6_pairNode_126 rfl rfl ?_
          refine y_aload_n 129 Y dX6_pairNode_129 rfl ?_
          refine y_geta 130 Y 5 dX6_pairNode_130 rfl rfl ?_
          refine y_iload_n 133 Y dX6_pairNode_133 rfl ?_
          refine y_iald 134 Y dX6_pairNode_134 rfl rfl o1 o2 (fun _ => ?_)
          refine y_bipush 135 Y dX6_pairNode_135 rfl ?_
          obtain ⟨o10, h⟩ := h
          refine y_isub 137 Y dX6_pairNode_137 o10 ?_
          obtain ⟨o11, h⟩ := h
          obtain ⟨o12, h⟩ := h
          refine y_bald 138 Y dX6_pairNode_138 rfl rfl o11 o12 (fun _ => ?_)
          refine y_if 139 144 Y dX6_pairNode_139 rfl rfl (fun c => ?_) (fun c => ?_)
          · replace h := h.1 c
            refine y_iload_n 144 Y dX6_pairNode_144 rfl ?_
            refine y_if 145 171 Y dX6_pairNode_145 rfl rfl (fun c => absurd c (show ¬ ((1 : Int) = 0) by decide)) (fun _ => ?_)
            refine y_aload_n 148 Y dX6_pairNode_148 rfl ?_
            refine y_aload_n 149 Y dX6_pairNode_149 rfl ?_
            refine y_getf 150 Y 76 dX6_pairNode_150 rfl rfl (fun _ => ?_)
            refine y_calls 153 Y (as := [mi (S 76 0)]) [mt] dX6_pairNode_153 rfl rfl rfl rfl rfl h (fun r S13 hq hI hr => ?_)
            obtain ⟨v14, rfl, h⟩ := Qi_ok hq
            replace h := h hI (mokI (hr _ rfl))
            clear hq hr
            refine y_aload_n 156 Y dX6_pairNode_156 rfl ?_
            refine y_geta 157 Y 5 dX6_pairNode_157 rfl rfl ?_
            refine y_iload_n 160 Y dX6_pairNode_160 rfl ?_
            refine y_iald 161 Y dX6_pairNode_161 rfl rfl o1 o2 (fun _ => ?_)
            refine y_bipush 162 Y dX6_pairNode_162 rfl ?_
            obtain ⟨o15, h⟩ := h
            refine y_isub 164 Y dX6_pairNode_164 o15 ?_
            refine y_call 165 Y (as := [mi v14, mi ((S13 5 a1) - 97)]) [] dX6_pairNode_165 rfl rfl rfl rfl rfl h (fun r S16 hq hI _ => ?_)
            obtain ⟨rfl, h⟩ := Qv_ok hq
            replace h := h hI
            clear hq
            refine y_goto 168 188 Y dX6_pairNode_168 rfl rfl ?_
            refine y_aload_n 188 Y dX6_pairNode_188 rfl ?_
            refine y_aload_n 189 Y dX6_pairNode_189 rfl ?_
            refine y_getf 190 Y 76 dX6_pairNode_190 rfl rfl (fun _ => ?_)
            refine y_calls 193 Y (as := [mi (S16 76 0)]) [mt] dX6_pairNode_193 rfl rfl rfl rfl rfl h (fun r S17 hq hI hr => ?_)
            obtain ⟨v18, rfl, h⟩ := Qi_ok hq
            replace h := h hI (mokI (hr _ rfl))
            clear hq hr
            refine y_iload_n 196 Y dX6_pairNode_196 rfl ?_
            refine y_if 197 214 Y dX6_pairNode_197 rfl rfl (fun c => absurd c (show ¬ ((1 : Int) = 0) by decide)) (fun _ => ?_)
            refine y_aload_n 200 Y dX6_pairNode_200 rfl ?_
            refine y_geta 201 Y 5 dX6_pairNode_201 rfl rfl ?_
            refine y_iload_n 204 Y dX6_pairNode_204 rfl ?_
            refine y_iald 205 Y dX6_pairNode_205 rfl rfl o1 o2 (fun _ => ?_)
            refine y_iload_n 206 Y dX6_pairNode_206 rfl ?_
            refine y_icmp 207 214 Y dX6_pairNode_207 rfl rfl (fun c => ?_) (fun c => ?_)
            · replace h := h.1 c
              refine y_iconst 214 Y dX6_pairNode_214 rfl ?_
              refine y_call 215 Y (as := [mi v18, mi 0]) [] dX6_pairNode_215 rfl rfl rfl rfl rfl h (fun r S19 hq hI _ => ?_)
              obtain ⟨rfl, h⟩ := Qv_ok hq
              replace h := h hI
              clear hq
              refine y_aload_n 218 Y dX6_pairNode_218 rfl ?_
              refine y_dup 219 Y dX6_pairNode_219 rfl ?_
              refine y_getf 220 Y 76 dX6_pairNode_220 rfl rfl (fun _ => ?_)
              refine y_iconst 223 Y dX6_pairNode_223 rfl ?_
              obtain ⟨o20, h⟩ := h
              refine y_iadd 224 Y dX6_pairNode_224 o20 ?_
              refine y_putf 225 Y 76 dX6_pairNode_225 rfl rfl (fun q => absurd q (by decide)) ?_
              refine y_iconst 228 Y dX6_pairNode_228 rfl ?_
              exact y_iret 229 Y dX6_pairNode_229 rfl h
            · replace h := h.2 c
              refine y_iconst 210 Y dX6_pairNode_210 rfl ?_
              refine y_goto 211 215 Y dX6_pairNode_211 rfl rfl ?_
              refine y_call 215 Y (as := [mi v18, mi 1]) [] dX6_pairNode_215 rfl rfl rfl rfl rfl h (fun r S21 hq hI _ => ?_)
              obtain ⟨rfl, h⟩ := Qv_ok hq
              replace h := h hI
              clear hq
              refine y_aload_n 218 Y dX6_pairNode_218 rfl ?_
              refine y_dup 219 Y dX6_pairNode_219 rfl ?_
              refine y_getf 220 Y 76 dX6_pairNode_220 rfl rfl (fun _ => ?_)
              refine y_iconst 223 Y dX6_pairNode_223 rfl ?_
              obtain ⟨o22, h⟩ := h
              refine y_iadd 224 Y dX6_pairNode_224 o22 ?_
              refine y_putf 225 Y 76 dX6_pairNode_225 rfl rfl (fun q => absurd q (by decide)) ?_
              refine y_iconst 228 Y dX6_pairNode_228 rfl ?_
              exact y_iret 229 Y dX6_pairNode_229 rfl h
          · replace h := h.2 c
            refine y_iconst 142 Y dX6_pairNode_142 rfl ?_
            exact y_iret 143 Y dX6_pairNode_143 rfl h
      · replace h := h.2 c
        refine y_aload_n 41 Y dX6_pairNode_41 rfl ?_
        refine y_geta 42 Y 3 dX6_pairNode_42 rfl rfl ?_
        refine y_bipush 45 Y dX6_pairNode_45 rfl ?_
        refine y_aload_n 47 Y dX6_pairNode_47 rfl ?_
        refine y_getf 48 Y 76 dX6_pairNode_48 rfl rfl (fun _ => ?_)
        refine y_iconst 51 Y dX6_pairNode_51 rfl ?_
        obtain ⟨o23, h⟩ := h
        refine y_isub 52 Y dX6_pairNode_52 o23 ?_
        refine y_calls 53 Y (as := [mi ((S 76 0) - 1)]) [mi 28, mr 3] dX6_pairNode_53 rfl rfl rfl rfl rfl h (fun r S24 hq hI hr => ?_)
        obtain ⟨v25, rfl, h⟩ := Qi_ok hq
        replace h := h hI (mokI (hr _ rfl))
        clear hq hr
        obtain ⟨o26, h⟩ := h
        refine y_imul 56 Y dX6_pairNode_56 o26 ?_
        refine y_aload_n 57 Y dX6_pairNode_57 rfl ?_
        refine y_aload_n 58 Y dX6_pairNode_58 rfl ?_
        refine y_getf 59 Y 76 dX6_pairNode_59 rfl rfl (fun _ => ?_)
        refine y_iconst 62 Y dX6_pairNode_62 rfl ?_
        obtain ⟨o27, h⟩ := h
        refine y_isub 63 Y dX6_pairNode_63 o27 ?_
        refine y_calls 64 Y (as := [mi ((S24 76 0) - 1)]) [mt, mi (28 * v25), mr 3] dX6_pairNode_64 rfl rfl rfl rfl rfl h (fun r S28 hq hI hr => ?_)
        obtain ⟨v29, rfl, h⟩ := Qi_ok hq
        replace h := h hI (mokI (hr _ rfl))
        clear hq hr
        refine y_call 67 Y (as := [mi v29]) [mi (28 * v25), mr 3] dX6_pairNode_67 rfl rfl rfl rfl rfl h (fun r S30 hq hI hr => ?_)
        obtain ⟨v31, rfl, h⟩ := Qi_ok hq
        replace h := h hI (mokI (hr _ rfl))
        clear hq hr
        obtain ⟨o32, h⟩ := h
        refine y_ineg 70 Y dX6_pairNode_70 o32 ?_
        obtain ⟨o33, h⟩ := h
        obtain ⟨o34, h⟩ := h
        refine y_iast 71 Y dX6_pairNode_71 rfl rfl o33 o34 ?_
        refine y_aload_n 72 Y dX6_pairNode_72 rfl ?_
        refine y_geta 73 Y 3 dX6_pairNode_73 rfl rfl ?_
        refine y_bipush 76 Y dX6_pairNode_76 rfl ?_
        refine y_aload_n 78 Y dX6_pairNode_78 rfl ?_
        refine y_getf 79 Y 76 dX6_pairNode_79 rfl rfl (fun _ => ?_)
        refine y_iconst 82 Y dX6_pairNode_82 rfl ?_
        obtain ⟨o35, h⟩ := h
        refine y_isub 83 Y dX6_pairNode_83 o35 ?_
        refine y_calls 84 Y (as := [mi ((S30 76 0) - 1)]) [mi 28, mr 3] dX6_pairNode_84 rfl rfl rfl rfl rfl h (fun r S36 hq hI hr => ?_)
        obtain ⟨v37, rfl, h⟩ := Qi_ok hq
        replace h := h hI (mokI (hr _ rfl))
        clear hq hr
        obtain ⟨o38, h⟩ := h
        refine y_imul 87 Y dX6_pairNode_87 o38 ?_
        refine y_aload_n 88 Y dX6_pairNode_88 rfl ?_
        refine y_aload_n 89 Y dX6_pairNode_89 rfl ?_
        refine y_getf 90 Y 76 dX6_pairNode_90 rfl rfl (fun _ => ?_)
        refine y_iconst 93 Y dX6_pairNode_93 rfl ?_
        obtain ⟨o39, h⟩ := h
        refine y_isub 94 Y dX6_pairNode_94 o39 ?_
        refine y_calls 95 Y (as := [mi ((S36 76 0) - 1)]) [mt, mi (28 * v37), mr 3] dX6_pairNode_95 rfl rfl rfl rfl rfl h (fun r S40 hq hI hr => ?_)
        obtain ⟨v41, rfl, h⟩ := Qi_ok hq
        replace h := h hI (mokI (hr _ rfl))
        clear hq hr
        refine y_call 98 Y (as := [mi v41]) [mi (28 * v37), mr 3] dX6_pairNode_98 rfl rfl rfl rfl rfl h (fun r S42 hq hI hr => ?_)
        obtain ⟨v43, rfl, h⟩ := Qi_ok hq
        replace h := h hI (mokI (hr _ rfl))
        clear hq hr
        obtain ⟨o44, h⟩ := h
        refine y_ineg 101 Y dX6_pairNode_101 o44 ?_
        obtain ⟨o45, h⟩ := h
        obtain ⟨o46, h⟩ := h
        refine y_iast 102 Y dX6_pairNode_102 rfl rfl o45 o46 ?_
        refine y_iconst 103 Y dX6_pairNode_103 rfl ?_
        exact y_iret 104 Y dX6_pairNode_104 rfl h
    · replace h := h.2 c
      refine y_aload_n 10 Y dX6_pairNode_10 rfl ?_
      refine y_geta 11 Y 7 dX6_pairNode_11 rfl rfl ?_
      refine y_iload_n 14 Y dX6_pairNode_14 rfl ?_
      refine y_iald 15 Y dX6_pairNode_15 rfl rfl o1 o2 (fun _ => ?_)
      refine y_iconst 16 Y dX6_pairNode_16 rfl ?_
      refine y_icmp 17 31 Y dX6_pairNode_17 rfl rfl (fun c => ?_) (fun c => ?_)
      · replace h := h.1 c
        refine y_aload_n 31 Y dX6_pairNode_31 rfl ?_
        refine y_geta 32 Y 4 dX6_pairNode_32 rfl rfl ?_
        refine y_iload_n 35 Y dX6_pairNode_35 rfl ?_
        refine y_iald 36 Y dX6_pairNode_36 rfl rfl o1 o2 (fun _ => ?_)
        refine y_iconst 37 Y dX6_pairNode_37 rfl ?_
        refine y_icmp 38 105 Y dX6_pairNode_38 rfl rfl (fun c => ?_) (fun c => ?_)
        · replace h := h.1 c
          refine y_aload_n 105 Y dX6_pairNode_105 rfl ?_
          refine y_geta 106 Y 4 dX6_pairNode_106 rfl rfl ?_
          refine y_iload_n 109 Y dX6_pairNode_109 rfl ?_
          refine y_iald 110 Y dX6_pairNode_110 rfl rfl o1 o2 (fun _ => ?_)
          refine y_iconst 111 Y dX6_pairNode_111 rfl ?_
          refine y_icmp 112 119 Y dX6_pairNode_112 rfl rfl (fun c => ?_) (fun c => ?_)
          · replace h := h.1 c
            refine y_iconst 119 Y dX6_pairNode_119 rfl ?_
            refine y_istore_n 120 Y [some mt, some (mi a1), some (mi a2), some (mi 0)] dX6_pairNode_120 rfl rfl ?_
            refine y_iload_n 121 Y dX6_pairNode_121 rfl ?_
            refine y_if 122 144 Y dX6_pairNode_122 rfl rfl (fun _ => ?_) (fun c => absurd (show (0 : Int) = 0 by decide) c)
            refine y_iload_n 144 Y dX6_pairNode_144 rfl ?_
            refine y_if 145 171 Y dX6_pairNode_145 rfl rfl (fun _ => ?_) (fun c => absurd (show (0 : Int) = 0 by decide) c)
            refine y_aload_n 171 Y dX6_pairNode_171 rfl ?_
            refine y_aload_n 172 Y dX6_pairNode_172 rfl ?_
            refine y_getf 173 Y 76 dX6_pairNode_173 rfl rfl (fun _ => ?_)
            refine y_calls 176 Y (as := [mi (S 76 0)]) [mt] dX6_pairNode_176 rfl rfl rfl rfl rfl h (fun r S47 hq hI hr => ?_)
            obtain ⟨v48, rfl, h⟩ := Qi_ok hq
            replace h := h hI (mokI (hr _ rfl))
            clear hq hr
            refine y_aload_n 179 Y dX6_pairNode_179 rfl ?_
            refine y_geta 180 Y 5 dX6_pairNode_180 rfl rfl ?_
            refine y_iload_n 183 Y dX6_pairNode_183 rfl ?_
            refine y_iald 184 Y dX6_pairNode_184 rfl rfl o1 o2 (fun _ => ?_)
            refine y_call 185 Y (as := [mi v48, mi (S47 5 a1)]) [] dX6_pairNode_185 rfl rfl rfl rfl rfl h (fun r S49 hq hI _ => ?_)
            obtain ⟨rfl, h⟩ := Qv_ok hq
            replace h := h hI
            clear hq
            refine y_aload_n 188 Y dX6_pairNode_188 rfl ?_
            refine y_aload_n 189 Y dX6_pairNode_189 rfl ?_
            refine y_getf 190 Y 76 dX6_pairNode_190 rfl rfl (fun _ => ?_)
            refine y_calls 193 Y (as := [mi (S49 76 0)]) [mt] dX6_pairNode_193 rfl rfl rfl rfl rfl h (fun r S50 hq hI hr => ?_)
            obtain ⟨v51, rfl, h⟩ := Qi_ok hq
            replace h := h hI (mokI (hr _ rfl))
            clear hq hr
            refine y_iload_n 196 Y dX6_pairNode_196 rfl ?_
            refine y_if 197 214 Y dX6_pairNode_197 rfl rfl (fun _ => ?_) (fun c => absurd (show (0 : Int) = 0 by decide) c)
            refine y_iconst 214 Y dX6_pairNode_214 rfl ?_
            refine y_call 215 Y (as := [mi v51, mi 0]) [] dX6_pairNode_215 rfl rfl rfl rfl rfl h (fun r S52 hq hI _ => ?_)
            obtain ⟨rfl, h⟩ := Qv_ok hq
            replace h := h hI
            clear hq
            refine y_aload_n 218 Y dX6_pairNode_218 rfl ?_
            refine y_dup 219 Y dX6_pairNode_219 rfl ?_
            refine y_getf 220 Y 76 dX6_pairNode_220 rfl rfl (fun _ => ?_)
            refine y_iconst 223 Y dX6_pairNode_223 rfl ?_
            obtain ⟨o53, h⟩ := h
            refine y_iadd 224 Y dX6_pairNode_224 o53 ?_
            refine y_putf 225 Y 76 dX6_pairNode_225 rfl rfl (fun q => absurd q (by decide)) ?_
            refine y_iconst 228 Y dX6_pairNode_228 rfl ?_
            exact y_iret 229 Y dX6_pairNode_229 rfl h
          · replace h := h.2 c
            refine y_iconst 115 Y dX6_pairNode_115 rfl ?_
            refine y_goto 116 120 Y dX6_pairNode_116 rfl rfl ?_
            refine y_istore_n 120 Y [some mt, some (mi a1), some (mi a2), some (mi 1)] dX6_pairNode_120 rfl rfl ?_
            refine y_iload_n 121 Y dX6_pairNode_121 rfl ?_
            refine y_if 122 144 Y dX6_pairNode_122 rfl rfl (fun c => absurd c (show ¬ ((1 : Int) = 0) by decide)) (fun _ => ?_)
            refine y_aload_n 125 Y dX6_pairNode_125 rfl ?_
            refine y_geta 126 Y 47 dX6_pairNode_126 rfl rfl ?_
            refine y_aload_n 129 Y dX6_pairNode_129 rfl ?_
            refine y_geta 130 Y 5 dX6_pairNode_130 rfl rfl ?_
            refine y_iload_n 133 Y dX6_pairNode_133 rfl ?_
            refine y_iald 134 Y dX6_pairNode_134 rfl rfl o1 o2 (fun _ => ?_)
            refine y_bipush 135 Y dX6_pairNode_135 rfl ?_
            obtain ⟨o54, h⟩ := h
            refine y_isub 137 Y dX6_pairNode_137 o54 ?_
            obtain ⟨o55, h⟩ := h
            obtain ⟨o56, h⟩ := h
            refine y_bald 138 Y dX6_pairNode_138 rfl rfl o55 o56 (fun _ => ?_)
            refine y_if 139 144 Y dX6_pairNode_139 rfl rfl (fun c => ?_) (fun c => ?_)
            · replace h := h.1 c
              refine y_iload_n 144 Y dX6_pairNode_144 rfl ?_
              refine y_if 145 171 Y dX6_pairNode_145 rfl rfl (fun c => absurd c (show ¬ ((1 : Int) = 0) by decide)) (fun _ => ?_)
              refine y_aload_n 148 Y dX6_pairNode_148 rfl ?_
              refine y_aload_n 149 Y dX6_pairNode_149 rfl ?_
              refine y_getf 150 Y 76 dX6_pairNode_150 rfl rfl (fun _ => ?_)
              refine y_calls 153 Y (as := [mi (S 76 0)]) [mt] dX6_pairNode_153 rfl rfl rfl rfl rfl h (fun r S57 hq hI hr => ?_)
              obtain ⟨v58, rfl, h⟩ := Qi_ok hq
              replace h := h hI (mokI (hr _ rfl))
              clear hq hr
              refine y_aload_n 156 Y dX6_pairNode_156 rfl ?_
              refine y_geta 157 Y 5 dX6_pairNode_157 rfl rfl ?_
              refine y_iload_n 160 Y dX6_pairNode_160 rfl ?_
              refine y_iald 161 Y dX6_pairNode_161 rfl rfl o1 o2 (fun _ => ?_)
              refine y_bipush 162 Y dX6_pairNode_162 rfl ?_
              obtain ⟨o59, h⟩ := h
              refine y_isub 164 Y dX6_pairNode_164 o59 ?_
              refine y_call 165 Y (as := [mi v58, mi ((S57 5 a1) - 97)]) [] dX6_pairNode_165 rfl rfl rfl rfl rfl h (fun r S60 hq hI _ => ?_)
              obtain ⟨rfl, h⟩ := Qv_ok hq
              replace h := h hI
              clear hq
              refine y_goto 168 188 Y dX6_pairNode_168 rfl rfl ?_
              refine y_aload_n 188 Y dX6_pairNode_188 rfl ?_
              refine y_aload_n 189 Y dX6_pairNode_189 rfl ?_
              refine y_getf 190 Y 76 dX6_pairNode_190 rfl rfl (fun _ => ?_)
              refine y_calls 193 Y (as := [mi (S60 76 0)]) [mt] dX6_pairNode_193 rfl rfl rfl rfl rfl h (fun r S61 hq hI hr => ?_)
              obtain ⟨v62, rfl, h⟩ := Qi_ok hq
              replace h := h hI (mokI (hr _ rfl))
              clear hq hr
              refine y_iload_n 196 Y dX6_pairNode_196 rfl ?_
              refine y_if 197 214 Y dX6_pairNode_197 rfl rfl (fun c => absurd c (show ¬ ((1 : Int) = 0) by decide)) (fun _ => ?_)
              refine y_aload_n 200 Y dX6_pairNode_200 rfl ?_
              refine y_geta 201 Y 5 dX6_pairNode_201 rfl rfl ?_
              refine y_iload_n 204 Y dX6_pairNode_204 rfl ?_
              refine y_iald 205 Y dX6_pairNode_205 rfl rfl o1 o2 (fun _ => ?_)
              refine y_iload_n 206 Y dX6_pairNode_206 rfl ?_
              refine y_icmp 207 214 Y dX6_pairNode_207 rfl rfl (fun c => ?_) (fun c => ?_)
              · replace h := h.1 c
                refine y_iconst 214 Y dX6_pairNode_214 rfl ?_
                refine y_call 215 Y (as := [mi v62, mi 0]) [] dX6_pairNode_215 rfl rfl rfl rfl rfl h (fun r S63 hq hI _ => ?_)
                obtain ⟨rfl, h⟩ := Qv_ok hq
                replace h := h hI
                clear hq
                refine y_aload_n 218 Y dX6_pairNode_218 rfl ?_
                refine y_dup 219 Y dX6_pairNode_219 rfl ?_
                refine y_getf 220 Y 76 dX6_pairNode_220 rfl rfl (fun _ => ?_)
                refine y_iconst 223 Y dX6_pairNode_223 rfl ?_
                obtain ⟨o64, h⟩ := h
                refine y_iadd 224 Y dX6_pairNode_224 o64 ?_
                refine y_putf 225 Y 76 dX6_pairNode_225 rfl rfl (fun q => absurd q (by decide)) ?_
                refine y_iconst 228 Y dX6_pairNode_228 rfl ?_
                exact y_iret 229 Y dX6_pairNode_229 rfl h
              · replace h := h.2 c
                refine y_iconst 210 Y dX6_pairNode_210 rfl ?_
                refine y_goto 211 215 Y dX6_pairNode_211 rfl rfl ?_
                refine y_call 215 Y (as := [mi v62, mi 1]) [] dX6_pairNode_215 rfl rfl rfl rfl rfl h (fun r S65 hq hI _ => ?_)
                obtain ⟨rfl, h⟩ := Qv_ok hq
                replace h := h hI
                clear hq
                refine y_aload_n 218 Y dX6_pairNode_218 rfl ?_
                refine y_dup 219 Y dX6_pairNode_219 rfl ?_
                refine y_getf 220 Y 76 dX6_pairNode_220 rfl rfl (fun _ => ?_)
                refine y_iconst 223 Y dX6_pairNode_223 rfl ?_
                obtain ⟨o66, h⟩ := h
                refine y_iadd 224 Y dX6_pairNode_224 o66 ?_
                refine y_putf 225 Y 76 dX6_pairNode_225 rfl rfl (fun q => absurd q (by decide)) ?_
                refine y_iconst 228 Y dX6_pairNode_228 rfl ?_
                exact y_iret 229 Y dX6_pairNode_229 rfl h
            · replace h := h.2 c
              refine y_iconst 142 Y dX6_pairNode_142 rfl ?_
              exact y_iret 143 Y dX6_pairNode_143 rfl h
        · replace h := h.2 c
          refine y_aload_n 41 Y dX6_pairNode_41 rfl ?_
          refine y_geta 42 Y 3 dX6_pairNode_42 rfl rfl ?_
          refine y_bipush 45 Y dX6_pairNode_45 rfl ?_
          refine y_aload_n 47 Y dX6_pairNode_47 rfl ?_
          refine y_getf 48 Y 76 dX6_pairNode_48 rfl rfl (fun _ => ?_)
          refine y_iconst 51 Y dX6_pairNode_51 rfl ?_
          obtain ⟨o67, h⟩ := h
          refine y_isub 52 Y dX6_pairNode_52 o67 ?_
          refine y_calls 53 Y (as := [mi ((S 76 0) - 1)]) [mi 28, mr 3] dX6_pairNode_53 rfl rfl rfl rfl rfl h (fun r S68 hq hI hr => ?_)
          obtain ⟨v69, rfl, h⟩ := Qi_ok hq
          replace h := h hI (mokI (hr _ rfl))
          clear hq hr
          obtain ⟨o70, h⟩ := h
          refine y_imul 56 Y dX6_pairNode_56 o70 ?_
          refine y_aload_n 57 Y dX6_pairNode_57 rfl ?_
          refine y_aload_n 58 Y dX6_pairNode_58 rfl ?_
          refine y_getf 59 Y 76 dX6_pairNode_59 rfl rfl (fun _ => ?_)
          refine y_iconst 62 Y dX6_pairNode_62 rfl ?_
          obtain ⟨o71, h⟩ := h
          refine y_isub 63 Y dX6_pairNode_63 o71 ?_
          refine y_calls 64 Y (as := [mi ((S68 76 0) - 1)]) [mt, mi (28 * v69), mr 3] dX6_pairNode_64 rfl rfl rfl rfl rfl h (fun r S72 hq hI hr => ?_)
          obtain ⟨v73, rfl, h⟩ := Qi_ok hq
          replace h := h hI (mokI (hr _ rfl))
          clear hq hr
          refine y_call 67 Y (as := [mi v73]) [mi (28 * v69), mr 3] dX6_pairNode_67 rfl rfl rfl rfl rfl h (fun r S74 hq hI hr => ?_)
          obtain ⟨v75, rfl, h⟩ := Qi_ok hq
          replace h := h hI (mokI (hr _ rfl))
          clear hq hr
          obtain ⟨o76, h⟩ := h
          refine y_ineg 70 Y dX6_pairNode_70 o76 ?_
          obtain ⟨o77, h⟩ := h
          obtain ⟨o78, h⟩ := h
          refine y_iast 71 Y dX6_pairNode_71 rfl rfl o77 o78 ?_
          refine y_aload_n 72 Y dX6_pairNode_72 rfl ?_
          refine y_geta 73 Y 3 dX6_pairNode_73 rfl rfl ?_
          refine y_bipush 76 Y dX6_pairNode_76 rfl ?_
          refine y_aload_n 78 Y dX6_pairNode_78 rfl ?_
          refine y_getf 79 Y 76 dX6_pairNode_79 rfl rfl (fun _ => ?_)
          refine y_iconst 82 Y dX6_pairNode_82 rfl ?_
          obtain ⟨o79, h⟩ := h
          refine y_isub 83 Y dX6_pairNode_83 o79 ?_
          refine y_calls 84 Y (as := [mi ((S74 76 0) - 1)]) [mi 28, mr 3] dX6_pairNode_84 rfl rfl rfl rfl rfl h (fun r S80 hq hI hr => ?_)
          obtain ⟨v81, rfl, h⟩ := Qi_ok hq
          replace h := h hI (mokI (hr _ rfl))
          clear hq hr
          obtain ⟨o82, h⟩ := h
          refine y_imul 87 Y dX6_pairNode_87 o82 ?_
          refine y_aload_n 88 Y dX6_pairNode_88 rfl ?_
          refine y_aload_n 89 Y dX6_pairNode_89 rfl ?_
          refine y_getf 90 Y 76 dX6_pairNode_90 rfl rfl (fun _ => ?_)
          refine y_iconst 93 Y dX6_pairNode_93 rfl ?_
          obtain ⟨o83, h⟩ := h
          refine y_isub 94 Y dX6_pairNode_94 o83 ?_
          refine y_calls 95 Y (as := [mi ((S80 76 0) - 1)]) [mt, mi (28 * v81), mr 3] dX6_pairNode_95 rfl rfl rfl rfl rfl h (fun r S84 hq hI hr => ?_)
          obtain ⟨v85, rfl, h⟩ := Qi_ok hq
          replace h := h hI (mokI (hr _ rfl))
          clear hq hr
          refine y_call 98 Y (as := [mi v85]) [mi (28 * v81), mr 3] dX6_pairNode_98 rfl rfl rfl rfl rfl h (fun r S86 hq hI hr => ?_)
          obtain ⟨v87, rfl, h⟩ := Qi_ok hq
          replace h := h hI (mokI (hr _ rfl))
          clear hq hr
          obtain ⟨o88, h⟩ := h
          refine y_ineg 101 Y dX6_pairNode_101 o88 ?_
          obtain ⟨o89, h⟩ := h
          obtain ⟨o90, h⟩ := h
          refine y_iast 102 Y dX6_pairNode_102 rfl rfl o89 o90 ?_
          refine y_iconst 103 Y dX6_pairNode_103 rfl ?_
          exact y_iret 104 Y dX6_pairNode_104 rfl h
      · replace h := h.2 c
        refine y_aload_n 20 Y dX6_pairNode_20 rfl ?_
        refine y_iload_n 21 Y dX6_pairNode_21 rfl ?_
        refine y_aload_n 22 Y dX6_pairNode_22 rfl ?_
        refine y_iload_n 23 Y dX6_pairNode_23 rfl ?_
        refine y_call 24 Y (as := [mi a1]) [mi a1, mt] dX6_pairNode_24 rfl rfl rfl rfl rfl h (fun r S91 hq hI hr => ?_)
        obtain ⟨v92, rfl, h⟩ := Qi_ok hq
        replace h := h hI (mokI (hr _ rfl))
        clear hq hr
        refine y_call 27 Y (as := [mi a1, mi v92]) [] dX6_pairNode_27 rfl rfl rfl rfl rfl h (fun r S93 hq hI hr => ?_)
        obtain ⟨v94, rfl, h⟩ := Qi_ok hq
        replace h := h hI (mokI (hr _ rfl))
        clear hq hr
        exact y_iret 30 Y dX6_pairNode_30 rfl h
  · intro n pc L st T hi
    exact hi.elim
set_option maxHeartbeats 4000000 in
theorem of_run {g : mG} {S : mS} {a1 : Int} {Qp : Option mV → mS → Prop} (I33 : Nat → Int → mS → Prop)
    (hE : mI S → (-2147483648 ≤ a1 ∧ a1 ≤ 2147483647) → CX_enter g [mt, mi a1, mi (-1)] (mup (mup (mup (mup (mup S 61 0 0) 62 0 0) 63 0 0) 60 0 0) 56 0 0) (Qv fun S1 => mI S1 → (∃ n1, I33 n1 0 S1)))
    (h33 : ∀ (n : Nat) (l2 : Int) (T : mS), mI T → (-2147483648 ≤ l2 ∧ l2 ≤ 2147483647) → I33 n l2 T → (((T 56 0) ≤ 0) → Qp (some (mi l2)) T) ∧ (¬ ((T 56 0) ≤ 0) → ((l2 ≠ 0) → Qp (some (mi l2)) T) ∧ (¬ (l2 ≠ 0) → (-2147483648 ≤ (((T 56 0) - 1) : Int) ∧ ((T 56 0) - 1) ≤ 2147483647) ∧ (0 ≤ ((T 56 0) - 1)) ∧ (((T 56 0) - 1) < 800) ∧ (0 ≤ (T 48 ((T 56 0) - 1))) ∧ ((T 48 ((T 56 0) - 1)) < 20300) ∧ (((T 4 (T 48 ((T 56 0) - 1))) ≠ 2) → (((T 4 (T 48 ((T 56 0) - 1))) = 0) → CX_leaf g [mt, mi (T 48 ((T 56 0) - 1)), mi (T 50 ((T 56 0) - 1))] T (Qi fun v7 S6 => mI S6 → (-2147483648 ≤ v7 ∧ v7 ≤ 2147483647) → (∃ n1, n1 < n ∧ I33 n1 v7 S6))) ∧ (¬ ((T 4 (T 48 ((T 56 0) - 1))) = 0) → (((T 4 (T 48 ((T 56 0) - 1))) ≠ 1) → CX_applies g [mt, mi ((T 56 0) - 1), mi (T 48 ((T 56 0) - 1))] T (Qi fun v9 S8 => mI S8 → (-2147483648 ≤ v9 ∧ v9 ≤ 2147483647) → (∃ n1, n1 < n ∧ I33 n1 v9 S8))) ∧ (¬ ((T 4 (T 48 ((T 56 0) - 1))) ≠ 1) → CX_leaf g [mt, mi (T 48 ((T 56 0) - 1)), mi (T 50 ((T 56 0) - 1))] T (Qi fun v11 S10 => mI S10 → (-2147483648 ≤ v11 ∧ v11 ≤ 2147483647) → (∃ n1, n1 < n ∧ I33 n1 v11 S10))))) ∧ (¬ ((T 4 (T 48 ((T 56 0) - 1))) ≠ 2) → (((T 4 (T 48 ((T 56 0) - 1))) = 0) → CX_leaf g [mt, mi (T 48 ((T 56 0) - 1)), mi (T 50 ((T 56 0) - 1))] T (Qi fun v13 S12 => mI S12 → (-2147483648 ≤ v13 ∧ v13 ≤ 2147483647) → (∃ n1, n1 < n ∧ I33 n1 v13 S12))) ∧ (¬ ((T 4 (T 48 ((T 56 0) - 1))) = 0) → (((T 4 (T 48 ((T 56 0) - 1))) ≠ 1) → (((T 5 (T 48 ((T 56 0) - 1))) ≠ 105) → (((T 5 (T 48 ((T 56 0) - 1))) ≠ 115) → CX_applies g [mt, mi ((T 56 0) - 1), mi (T 48 ((T 56 0) - 1))] T (Qi fun v15 S14 => mI S14 → (-2147483648 ≤ v15 ∧ v15 ≤ 2147483647) → (∃ n1, n1 < n ∧ I33 n1 v15 S14))) ∧ (¬ ((T 5 (T 48 ((T 56 0) - 1))) ≠ 115) → CX_sums g [mt, mi ((T 56 0) - 1), mi (T 48 ((T 56 0) - 1))] T (Qi fun v17 S16 => mI S16 → (-2147483648 ≤ v17 ∧ v17 ≤ 2147483647) → (∃ n1, n1 < n ∧ I33 n1 v17 S16)))) ∧ (¬ ((T 5 (T 48 ((T 56 0) - 1))) ≠ 105) → CX_choose g [mt, mi ((T 56 0) - 1), mi (T 48 ((T 56 0) - 1))] T (Qi fun v19 S18 => mI S18 → (-2147483648 ≤ v19 ∧ v19 ≤ 2147483647) → (∃ n1, n1 < n ∧ I33 n1 v19 S18)))) ∧ (¬ ((T 4 (T 48 ((T 56 0) - 1))) ≠ 1) → CX_leaf g [mt, mi (T 48 ((T 56 0) - 1)), mi (T 50 ((T 56 0) - 1))] T (Qi fun v21 S20 => mI S20 → (-2147483648 ≤ v21 ∧ v21 ≤ 2147483647) → (∃ n1, n1 < n ∧ I33 n1 v21 S20))))))))
    : CX_run g [mt, mi a1] S Qp := by
  refine cm_y ⟨by decide, rfl⟩ (by simp [mcat]) (by simp) (fun n pc L st S => (pc = 33 ∧ ∃ (l2 : Int), L = [some mt, none, some (mi l2), none, none, none] ∧ st = [] ∧ I33 n l2 S)) ?_ ?_
  · intro ha hS P Y Wk hIc
    have h := hE hS (mokI (ha (mi a1) (by simp)))
    clear hE ha h33
    refine y_aload_n 0 Y dX6_run_0 rfl ?_
    refine y_iconst 1 Y dX6_run_1 rfl ?_
    refine y_putf 2 Y 61 dX6_run_2 rfl rfl (fun q => absurd q (by decide)) ?_
    refine y_aload_n 5 Y dX6_run_5 rfl ?_
    refine y_iconst 6 Y dX6_run_6 rfl ?_
    refine y_putf 7 Y 62 dX6_run_7 rfl rfl (fun q => absurd q (by decide)) ?_
    refine y_aload_n 10 Y dX6_run_10 rfl ?_
    refine y_iconst 11 Y dX6_run_11 rfl ?_
    refine y_putf 12 Y 63 dX6_run_12 rfl rfl (fun q => absurd q (by decide)) ?_
    refine y_aload_n 15 Y dX6_run_15 rfl ?_
    refine y_iconst 16 Y dX6_run_16 rfl ?_
    refine y_putf 17 Y 60 dX6_run_17 rfl rfl (fun q => absurd q (by decide)) ?_
    refine y_aload_n 20 Y dX6_run_20 rfl ?_
    refine y_iconst 21 Y dX6_run_21 rfl ?_
    refine y_putf 22 Y 56 dX6_run_22 rfl rfl (fun q => absurd q (by decide)) ?_
    refine y_aload_n 25 Y dX6_run_25 rfl ?_
    refine y_iload_n 26 Y dX6_run_26 rfl ?_
    refine y_iconst 27 Y dX6_run_27 rfl ?_
    refine y_call 28 Y (as := [mi a1, mi (-1)]) [] dX6_run_28 rfl rfl rfl rfl rfl h (fun r S1 hq hI _ => ?_)
    obtain ⟨rfl, h⟩ := Qv_ok hq
    replace h := h hI
    clear hq
    refine y_iconst 31 Y dX6_run_31 rfl ?_
    refine y_istore_n 32 Y [some mt, some (mi a1), some (mi 0), none, none, none] dX6_run_32 rfl rfl ?_
    obtain ⟨n1, h⟩ := h
    exact Wk 33 _ [some mt, none, some (mi 0), none, none, none] _ _ ⟨rfl, ⟨rfl, trivial⟩⟩ (hIc n1 _ _ _ _ ((⟨rfl, _, rfl, rfl, h⟩)))
  · intro n pc L st T hi hS hL P Y Wk hIc
    clear hE
    rcases hi with ⟨rfl, l2, rfl, rfl, hi⟩
    · have h := h33 n l2 T hS (hL 2 _ rfl) hi
      clear hL hi h33
      refine y_aload_n 33 Y dX6_run_33 rfl ?_
      refine y_getf 34 Y 56 dX6_run_34 rfl rfl (fun _ => ?_)
      refine y_if 37 178 Y dX6_run_37 rfl rfl (fun c => ?_) (fun c => ?_)
      · replace h := h.1 c
        refine y_iload_n 178 Y dX6_run_178 rfl ?_
        exact y_iret 179 Y dX6_run_179 rfl h
      · replace h := h.2 c
        refine y_iload_n 40 Y dX6_run_40 rfl ?_
        refine y_if 41 178 Y dX6_run_41 rfl rfl (fun c => ?_) (fun c => ?_)
        · replace h := h.1 c
          refine y_iload_n 178 Y dX6_run_178 rfl ?_
          exact y_iret 179 Y dX6_run_179 rfl h
        · replace h := h.2 c
          refine y_aload_n 44 Y dX6_run_44 rfl ?_
          refine y_getf 45 Y 56 dX6_run_45 rfl rfl (fun _ => ?_)
          refine y_iconst 48 Y dX6_run_48 rfl ?_
          obtain ⟨o1, h⟩ := h
          refine y_isub 49 Y dX6_run_49 o1 ?_
          refine y_istore_n 50 Y [some mt, none, some (mi l2), some (mi ((T 56 0) - 1)), none, none] dX6_run_50 rfl rfl ?_
          refine y_aload_n 51 Y dX6_run_51 rfl ?_
          refine y_geta 52 Y 48 dX6_run_52 rfl rfl ?_
          refine y_iload_n 55 Y dX6_run_55 rfl ?_
          obtain ⟨o2, h⟩ := h
          obtain ⟨o3, h⟩ := h
          refine y_iald 56 Y dX6_run_56 rfl rfl o2 o3 (fun _ => ?_)
          refine y_istore 57 Y [some mt, none, some (mi l2), some (mi ((T 56 0) - 1)), some (mi (T 48 ((T 56 0) - 1))), none] dX6_run_57 rfl rfl ?_
          refine y_aload_n 59 Y dX6_run_59 rfl ?_
          refine y_geta 60 Y 4 dX6_run_60 rfl rfl ?_
          refine y_iload 63 Y dX6_run_63 rfl ?_
          obtain ⟨o4, h⟩ := h
          obtain ⟨o5, h⟩ := h
          refine y_iald 65 Y dX6_run_65 rfl rfl o4 o5 (fun _ => ?_)
          refine y_iconst 66 Y dX6_run_66 rfl ?_
          refine y_icmp 67 74 Y dX6_run_67 rfl rfl (fun c => ?_) (fun c => ?_)
          · replace h := h.1 c
            refine y_iconst 74 Y dX6_run_74 rfl ?_
            refine y_istore 75 Y [some mt, none, some (mi l2), some (mi ((T 56 0) - 1)), some (mi (T 48 ((T 56 0) - 1))), some (mi 0)] dX6_run_75 rfl rfl ?_
            refine y_aload_n 77 Y dX6_run_77 rfl ?_
            refine y_geta 78 Y 4 dX6_run_78 rfl rfl ?_
            refine y_iload 81 Y dX6_run_81 rfl ?_
            refine y_iald 83 Y dX6_run_83 rfl rfl o4 o5 (fun _ => ?_)
            refine y_if 84 98 Y dX6_run_84 rfl rfl (fun c => ?_) (fun c => ?_)
            · replace h := h.1 c
              refine y_aload_n 98 Y dX6_run_98 rfl ?_
              refine y_iload 99 Y dX6_run_99 rfl ?_
              refine y_aload_n 101 Y dX6_run_101 rfl ?_
              refine y_geta 102 Y 50 dX6_run_102 rfl rfl ?_
              refine y_iload_n 105 Y dX6_run_105 rfl ?_
              refine y_iald 106 Y dX6_run_106 rfl rfl o2 o3 (fun _ => ?_)
              refine y_call 107 Y (as := [mi (T 48 ((T 56 0) - 1)), mi (T 50 ((T 56 0) - 1))]) [] dX6_run_107 rfl rfl rfl rfl rfl h (fun r S6 hq hI hr => ?_)
              obtain ⟨v7, rfl, h⟩ := Qi_ok hq
              replace h := h hI (mokI (hr _ rfl))
              clear hq hr
              refine y_goto 110 174 Y dX6_run_110 rfl rfl ?_
              refine y_istore_n 174 Y [some mt, none, some (mi v7), some (mi ((T 56 0) - 1)), some (mi (T 48 ((T 56 0) - 1))), some (mi 0)] dX6_run_174 rfl rfl ?_
              refine y_goto 175 33 Y dX6_run_175 rfl rfl ?_
              obtain ⟨n1, hn, h⟩ := h
              exact Wk 33 _ [some mt, none, some (mi v7), none, none, none] _ _ ⟨rfl, ⟨rfl, trivial⟩⟩ (hIc n1 _ _ _ _ hn ((⟨rfl, _, rfl, rfl, h⟩)))
            · replace h := h.2 c
              refine y_aload_n 87 Y dX6_run_87 rfl ?_
              refine y_geta 88 Y 4 dX6_run_88 rfl rfl ?_
              refine y_iload 91 Y dX6_run_91 rfl ?_
              refine y_iald 93 Y dX6_run_93 rfl rfl o4 o5 (fun _ => ?_)
              refine y_iconst 94 Y dX6_run_94 rfl ?_
              refine y_icmp 95 113 Y dX6_run_95 rfl rfl (fun c => ?_) (fun c => ?_)
              · replace h := h.1 c
                refine y_iload 113 Y dX6_run_113 rfl ?_
                refine y_if 115 140 Y dX6_run_115 rfl rfl (fun _ => ?_) (fun c => absurd (show (0 : Int) = 0 by decide) c)
                refine y_iload 140 Y dX6_run_140 rfl ?_
                refine y_if 142 167 Y dX6_run_142 rfl rfl (fun _ => ?_) (fun c => absurd (show (0 : Int) = 0 by decide) c)
                refine y_aload_n 167 Y dX6_run_167 rfl ?_
                refine y_iload_n 168 Y dX6_run_168 rfl ?_
                refine y_iload 169 Y dX6_run_169 rfl ?_
                refine y_call 171 Y (as := [mi ((T 56 0) - 1), mi (T 48 ((T 56 0) - 1))]) [] dX6_run_171 rfl rfl rfl rfl rfl h (fun r S8 hq hI hr => ?_)
                obtain ⟨v9, rfl, h⟩ := Qi_ok hq
                replace h := h hI (mokI (hr _ rfl))
                clear hq hr
                refine y_istore_n 174 Y [some mt, none, some (mi v9), some (mi ((T 56 0) - 1)), some (mi (T 48 ((T 56 0) - 1))), some (mi 0)] dX6_run_174 rfl rfl ?_
                refine y_goto 175 33 Y dX6_run_175 rfl rfl ?_
                obtain ⟨n1, hn, h⟩ := h
                exact Wk 33 _ [some mt, none, some (mi v9), none, none, none] _ _ ⟨rfl, ⟨rfl, trivial⟩⟩ (hIc n1 _ _ _ _ hn ((⟨rfl, _, rfl, rfl, h⟩)))
              · replace h := h.2 c
                refine y_aload_n 98 Y dX6_run_98 rfl ?_
                refine y_iload 99 Y dX6_run_99 rfl ?_
                refine y_aload_n 101 Y dX6_run_101 rfl ?_
                refine y_geta 102 Y 50 dX6_run_102 rfl rfl ?_
                refine y_iload_n 105 Y dX6_run_105 rfl ?_
                refine y_iald 106 Y dX6_run_106 rfl rfl o2 o3 (fun _ => ?_)
                refine y_call 107 Y (as := [mi (T 48 ((T 56 0) - 1)), mi (T 50 ((T 56 0) - 1))]) [] dX6_run_107 rfl rfl rfl rfl rfl h (fun r S10 hq hI hr => ?_)
                obtain ⟨v11, rfl, h⟩ := Qi_ok hq
                replace h := h hI (mokI (hr _ rfl))
                clear hq hr
                refine y_goto 110 174 Y dX6_run_110 rfl rfl ?_
                refine y_istore_n 174 Y [some mt, none, some (mi v11), some (mi ((T 56 0) - 1)), some (mi (T 48 ((T 56 0) - 1))), some (mi 0)] dX6_run_174 rfl rfl ?_
                refine y_goto 175 33 Y dX6_run_175 rfl rfl ?_
                obtain ⟨n1, hn, h⟩ := h
                exact Wk 33 _ [some mt, none, some (mi v11), none, none, none] _ _ ⟨rfl, ⟨rfl, trivial⟩⟩ (hIc n1 _ _ _ _ hn ((⟨rfl, _, rfl, rfl, h⟩)))
          · replace h := h.2 c
            refine y_iconst 70 Y dX6_run_70 rfl ?_
            refine y_goto 71 75 Y dX6_run_71 rfl rfl ?_
            refine y_istore 75 Y [some mt, none, some (mi l2), some (mi ((T 56 0) - 1)), some (mi (T 48 ((T 56 0) - 1))), some (mi 1)] dX6_run_75 rfl rfl ?_
            refine y_aload_n 77 Y dX6_run_77 rfl ?_
            refine y_geta 78 Y 4 dX6_run_78 rfl rfl ?_
            refine y_iload 81 Y dX6_run_81 rfl ?_
            refine y_iald 83 Y dX6_run_83 rfl rfl o4 o5 (fun _ => ?_)
            refine y_if 84 98 Y dX6_run_84 rfl rfl (fun c => ?_) (fun c => ?_)
            · replace h := h.1 c
              refine y_aload_n 98 Y dX6_run_98 rfl ?_
              refine y_iload 99 Y dX6_run_99 rfl ?_
              refine y_aload_n 101 Y dX6_run_101 rfl ?_
              refine y_geta 102 Y 50 dX6_run_102 rfl rfl ?_
              refine y_iload_n 105 Y dX6_run_105 rfl ?_
              refine y_iald 106 Y dX6_run_106 rfl rfl o2 o3 (fun _ => ?_)
              refine y_call 107 Y (as := [mi (T 48 ((T 56 0) - 1)), mi (T 50 ((T 56 0) - 1))]) [] dX6_run_107 rfl rfl rfl rfl rfl h (fun r S12 hq hI hr => ?_)
              obtain ⟨v13, rfl, h⟩ := Qi_ok hq
              replace h := h hI (mokI (hr _ rfl))
              clear hq hr
              refine y_goto 110 174 Y dX6_run_110 rfl rfl ?_
              refine y_istore_n 174 Y [some mt, none, some (mi v13), some (mi ((T 56 0) - 1)), some (mi (T 48 ((T 56 0) - 1))), some (mi 1)] dX6_run_174 rfl rfl ?_
              refine y_goto 175 33 Y dX6_run_175 rfl rfl ?_
              obtain ⟨n1, hn, h⟩ := h
              exact Wk 33 _ [some mt, none, some (mi v13), none, none, none] _ _ ⟨rfl, ⟨rfl, trivial⟩⟩ (hIc n1 _ _ _ _ hn ((⟨rfl, _, rfl, rfl, h⟩)))
            · replace h := h.2 c
              refine y_aload_n 87 Y dX6_run_87 rfl ?_
              refine y_geta 88 Y 4 dX6_run_88 rfl rfl ?_
              refine y_iload 91 Y dX6_run_91 rfl ?_
              refine y_iald 93 Y dX6_run_93 rfl rfl o4 o5 (fun _ => ?_)
              refine y_iconst 94 Y dX6_run_94 rfl ?_
              refine y_icmp 95 113 Y dX6_run_95 rfl rfl (fun c => ?_) (fun c => ?_)
              · replace h := h.1 c
                refine y_iload 113 Y dX6_run_113 rfl ?_
                refine y_if 115 140 Y dX6_run_115 rfl rfl (fun c => absurd c (show ¬ ((1 : Int) = 0) by decide)) (fun _ => ?_)
                refine y_aload_n 118 Y dX6_run_118 rfl ?_
                refine y_geta 119 Y 5 dX6_run_119 rfl rfl ?_
                refine y_iload 122 Y dX6_run_122 rfl ?_
                refine y_iald 124 Y dX6_run_124 rfl rfl o4 o5 (fun _ => ?_)
                refine y_bipush 125 Y dX6_run_125 rfl ?_
                refine y_icmp 127 140 Y dX6_run_127 rfl rfl (fun c => ?_) (fun c => ?_)
                · replace h := h.1 c
                  refine y_iload 140 Y dX6_run_140 rfl ?_
                  refine y_if 142 167 Y dX6_run_142 rfl rfl (fun c => absurd c (show ¬ ((1 : Int) = 0) by decide)) (fun _ => ?_)
                  refine y_aload_n 145 Y dX6_run_145 rfl ?_
                  refine y_geta 146 Y 5 dX6_run_146 rfl rfl ?_
                  refine y_iload 149 Y dX6_run_149 rfl ?_
                  refine y_iald 151 Y dX6_run_151 rfl rfl o4 o5 (fun _ => ?_)
                  refine y_bipush 152 Y dX6_run_152 rfl ?_
                  refine y_icmp 154 167 Y dX6_run_154 rfl rfl (fun c => ?_) (fun c => ?_)
                  · replace h := h.1 c
                    refine y_aload_n 167 Y dX6_run_167 rfl ?_
                    refine y_iload_n 168 Y dX6_run_168 rfl ?_
                    refine y_iload 169 Y dX6_run_169 rfl ?_
                    refine y_call 171 Y (as := [mi ((T 56 0) - 1), mi (T 48 ((T 56 0) - 1))]) [] dX6_run_171 rfl rfl rfl rfl rfl h (fun r S14 hq hI hr => ?_)
                    obtain ⟨v15, rfl, h⟩ := Qi_ok hq
                    replace h := h hI (mokI (hr _ rfl))
                    clear hq hr
                    refine y_istore_n 174 Y [some mt, none, some (mi v15), some (mi ((T 56 0) - 1)), some (mi (T 48 ((T 56 0) - 1))), some (mi 1)] dX6_run_174 rfl rfl ?_
                    refine y_goto 175 33 Y dX6_run_175 rfl rfl ?_
                    obtain ⟨n1, hn, h⟩ := h
                    exact Wk 33 _ [some mt, none, some (mi v15), none, none, none] _ _ ⟨rfl, ⟨rfl, trivial⟩⟩ (hIc n1 _ _ _ _ hn ((⟨rfl, _, rfl, rfl, h⟩)))
                  · replace h := h.2 c
                    refine y_aload_n 157 Y dX6_run_157 rfl ?_
                    refine y_iload_n 158 Y dX6_run_158 rfl ?_
                    refine y_iload 159 Y dX6_run_159 rfl ?_
                    refine y_call 161 Y (as := [mi ((T 56 0) - 1), mi (T 48 ((T 56 0) - 1))]) [] dX6_run_161 rfl rfl rfl rfl rfl h (fun r S16 hq hI hr => ?_)
                    obtain ⟨v17, rfl, h⟩ := Qi_ok hq
                    replace h := h hI (mokI (hr _ rfl))
                    clear hq hr
                    refine y_goto 164 174 Y dX6_run_164 rfl rfl ?_
                    refine y_istore_n 174 Y [some mt, none, some (mi v17), some (mi ((T 56 0) - 1)), some (mi (T 48 ((T 56 0) - 1))), some (mi 1)] dX6_run_174 rfl rfl ?_
                    refine y_goto 175 33 Y dX6_run_175 rfl rfl ?_
                    obtain ⟨n1, hn, h⟩ := h
                    exact Wk 33 _ [some mt, none, some (mi v17), none, none, none] _ _ ⟨rfl, ⟨rfl, trivial⟩⟩ (hIc n1 _ _ _ _ hn ((⟨rfl, _, rfl, rfl, h⟩)))
                · replace h := h.2 c
                  refine y_aload_n 130 Y dX6_run_130 rfl ?_
                  refine y_iload_n 131 Y dX6_run_131 rfl ?_
                  refine y_iload 132 Y dX6_run_132 rfl ?_
                  refine y_call 134 Y (as := [mi ((T 56 0) - 1), mi (T 48 ((T 56 0) - 1))]) [] dX6_run_134 rfl rfl rfl rfl rfl h (fun r S18 hq hI hr => ?_)
                  obtain ⟨v19, rfl, h⟩ := Qi_ok hq
                  replace h := h hI (mokI (hr _ rfl))
                  clear hq hr
                  refine y_goto 137 174 Y dX6_run_137 rfl rfl ?_
                  refine y_istore_n 174 Y [some mt, none, some (mi v19), some (mi ((T 56 0) - 1)), some (mi (T 48 ((T 56 0) - 1))), some (mi 1)] dX6_run_174 rfl rfl ?_
                  refine y_goto 175 33 Y dX6_run_175 rfl rfl ?_
                  obtain ⟨n1, hn, h⟩ := h
                  exact Wk 33 _ [some mt, none, some (mi v19), none, none, none] _ _ ⟨rfl, ⟨rfl, trivial⟩⟩ (hIc n1 _ _ _ _ hn ((⟨rfl, _, rfl, rfl, h⟩)))
              · replace h := h.2 c
                refine y_aload_n 98 Y dX6_run_98 rfl ?_
                refine y_iload 99 Y dX6_run_99 rfl ?_
                refine y_aload_n 101 Y dX6_run_101 rfl ?_
                refine y_geta 102 Y 50 dX6_run_102 rfl rfl ?_
                refine y_iload_n 105 Y dX6_run_105 rfl ?_
                refine y_iald 106 Y dX6_run_106 rfl rfl o2 o3 (fun _ => ?_)
                refine y_call 107 Y (as := [mi (T 48 ((T 56 0) - 1)), mi (T 50 ((T 56 0) - 1))]) [] dX6_run_107 rfl rfl rfl rfl rfl h (fun r S20 hq hI hr => ?_)
                obtain ⟨v21, rfl, h⟩ := Qi_ok hq
                replace h := h hI (mokI (hr _ rfl))
                clear hq hr
                refine y_goto 110 174 Y dX6_run_110 rfl rfl ?_
                refine y_istore_n 174 Y [some mt, none, some (mi v21), some (mi ((T 56 0) - 1)), some (mi (T 48 ((T 56 0) - 1))), some (mi 1)] dX6_run_174 rfl rfl ?_
                refine y_goto 175 33 Y dX6_run_175 rfl rfl ?_
                obtain ⟨n1, hn, h⟩ := h
                exact Wk 33 _ [some mt, none, some (mi v21), none, none, none] _ _ ⟨rfl, ⟨rfl, trivial⟩⟩ (hIc n1 _ _ _ _ hn ((⟨rfl, _, rfl, rfl, h⟩)))
set_option maxHeartbeats 4000000 in
theorem of_solve {g : mG} {S : mS} {a1 a2 : Int} {Qp : Option mV → mS → Prop} (I98 : Nat → mS → Prop) (I146 : Nat → Int → Int → Int → Int → Int → mS → Prop)
    (hE : mI S → (-2147483648 ≤ a1 ∧ a1 ≤ 2147483647) → (-2147483648 ≤ a2 ∧ a2 ≤ 2147483647) → CX_isTree g [mt, mi a1] S (Qi fun v2 S1 => mI S1 → (-2147483648 ≤ v2 ∧ v2 ≤ 2147483647) → ((v2 ≠ 0) → CX_isName g [mi a2] S1 (Qi fun v4 S3 => mI S3 → (-2147483648 ≤ v4 ∧ v4 ≤ 2147483647) → ((v4 ≠ 0) → CX_refused g [mt, mi 0, mi 0, mi 0] S3 (Qi fun v6 S5 => mI S5 → (-2147483648 ≤ v6 ∧ v6 ≤ 2147483647) → ((v6 = 0) → CX_shelf g [mi a1] S5 (Qi fun v8 S7 => mI S7 → (-2147483648 ≤ v8 ∧ v8 ≤ 2147483647) → CX_meaningAt g [mt, mi v8] (mup S7 68 0 0) (Qi fun v10 S9 => mI S9 → (-2147483648 ≤ v10 ∧ v10 ≤ 2147483647) → ((v10 ≠ 7) → (∃ n1, I98 n1 S9)) ∧ (¬ (v10 ≠ 7) → (-2147483648 ≤ ((v8 + 1) : Int) ∧ (v8 + 1) ≤ 2147483647) ∧ CX_gathers g [mt, mi (v8 + 1), mi a2] S9 (Qi fun v13 S12 => mI S12 → (-2147483648 ≤ v13 ∧ v13 ≤ 2147483647) → ((v13 = 0) → (∃ n1, I98 n1 S12)) ∧ (¬ (v13 = 0) → CX_child g [mt, mi v8, mi 1] S12 (Qi fun v15 S14 => mI S14 → (-2147483648 ≤ v15 ∧ v15 ≤ 2147483647) → CX_gathers g [mt, mi v15, mi a2] S14 (Qi fun v17 S16 => mI S16 → (-2147483648 ≤ v17 ∧ v17 ≤ 2147483647) → ((v17 = 0) → (∃ n1, I98 n1 S16)) ∧ (¬ (v17 = 0) → CX_degreeOf g [mt, mi 0] S16 (Qi fun v19 S18 => mI S18 → (-2147483648 ≤ v19 ∧ v19 ≤ 2147483647) → ((1 < v19) → (∃ n1, I98 n1 S18)) ∧ (¬ (1 < v19) → CX_degreeOf g [mt, mi 1] S18 (Qi fun v21 S20 => mI S20 → (-2147483648 ≤ v21 ∧ v21 ≤ 2147483647) → ((v21 ≤ 1) → CX_coefficientAt g [mi 0, mi 1] S20 (Qi fun v23 S22 => mI S22 → (-2147483648 ≤ v23 ∧ v23 ≤ 2147483647) → CX_coefficientAt g [mi 0, mi 0] S22 (Qi fun v25 S24 => mI S24 → (-2147483648 ≤ v25 ∧ v25 ≤ 2147483647) → CX_coefficientAt g [mi 1, mi 1] S24 (Qi fun v27 S26 => mI S26 → (-2147483648 ≤ v27 ∧ v27 ≤ 2147483647) → CX_coefficientAt g [mi 1, mi 0] S26 (Qi fun v29 S28 => mI S28 → (-2147483648 ≤ v29 ∧ v29 ≤ 2147483647) → CX_compareValues g [mt, mi v23, mi v27] S28 (Qi fun v31 S30 => mI S30 → (-2147483648 ≤ v31 ∧ v31 ≤ 2147483647) → ((v31 = 0) → (∃ n1, I146 n1 v23 v25 v27 v29 0 S30)) ∧ (¬ (v31 = 0) → (∃ n1, I146 n1 v23 v25 v27 v29 1 S30)))))))) ∧ (¬ (v21 ≤ 1) → (∃ n1, I98 n1 S20)))))))))))))) ∧ (¬ (v6 = 0) → Qp (some (mi 0)) S5))) ∧ (¬ (v4 ≠ 0) → CX_refused g [mt, mi 0, mi 1, mi 0] S3 (Qi fun v33 S32 => mI S32 → (-2147483648 ≤ v33 ∧ v33 ≤ 2147483647) → ((v33 = 0) → CX_shelf g [mi a1] S32 (Qi fun v35 S34 => mI S34 → (-2147483648 ≤ v35 ∧ v35 ≤ 2147483647) → CX_meaningAt g [mt, mi v35] (mup S34 68 0 0) (Qi fun v37 S36 => mI S36 → (-2147483648 ≤ v37 ∧ v37 ≤ 2147483647) → ((v37 ≠ 7) → (∃ n1, I98 n1 S36)) ∧ (¬ (v37 ≠ 7) → (-2147483648 ≤ ((v35 + 1) : Int) ∧ (v35 + 1) ≤ 2147483647) ∧ CX_gathers g [mt, mi (v35 + 1), mi a2] S36 (Qi fun v40 S39 => mI S39 → (-2147483648 ≤ v40 ∧ v40 ≤ 2147483647) → ((v40 = 0) → (∃ n1, I98 n1 S39)) ∧ (¬ (v40 = 0) → CX_child g [mt, mi v35, mi 1] S39 (Qi fun v42 S41 => mI S41 → (-2147483648 ≤ v42 ∧ v42 ≤ 2147483647) → CX_gathers g [mt, mi v42, mi a2] S41 (Qi fun v44 S43 => mI S43 → (-2147483648 ≤ v44 ∧ v44 ≤ 2147483647) → ((v44 = 0) → (∃ n1, I98 n1 S43)) ∧ (¬ (v44 = 0) → CX_degreeOf g [mt, mi 0] S43 (Qi fun v46 S45 => mI S45 → (-2147483648 ≤ v46 ∧ v46 ≤ 2147483647) → ((1 < v46) → (∃ n1, I98 n1 S45)) ∧ (¬ (1 < v46) → CX_degreeOf g [mt, mi 1] S45 (Qi fun v48 S47 => mI S47 → (-2147483648 ≤ v48 ∧ v48 ≤ 2147483647) → ((v48 ≤ 1) → CX_coefficientAt g [mi 0, mi 1] S47 (Qi fun v50 S49 => mI S49 → (-2147483648 ≤ v50 ∧ v50 ≤ 2147483647) → CX_coefficientAt g [mi 0, mi 0] S49 (Qi fun v52 S51 => mI S51 → (-2147483648 ≤ v52 ∧ v52 ≤ 2147483647) → CX_coefficientAt g [mi 1, mi 1] S51 (Qi fun v54 S53 => mI S53 → (-2147483648 ≤ v54 ∧ v54 ≤ 2147483647) → CX_coefficientAt g [mi 1, mi 0] S53 (Qi fun v56 S55 => mI S55 → (-2147483648 ≤ v56 ∧ v56 ≤ 2147483647) → CX_compareValues g [mt, mi v50, mi v54] S55 (Qi fun v58 S57 => mI S57 → (-2147483648 ≤ v58 ∧ v58 ≤ 2147483647) → ((v58 = 0) → (∃ n1, I146 n1 v50 v52 v54 v56 0 S57)) ∧ (¬ (v58 = 0) → (∃ n1, I146 n1 v50 v52 v54 v56 1 S57)))))))) ∧ (¬ (v48 ≤ 1) → (∃ n1, I98 n1 S47)))))))))))))) ∧ (¬ (v33 = 0) → Qp (some (mi 0)) S32))))) ∧ (¬ (v2 ≠ 0) → CX_isName g [mi a2] S1 (Qi fun v60 S59 => mI S59 → (-2147483648 ≤ v60 ∧ v60 ≤ 2147483647) → ((v60 ≠ 0) → CX_refused g [mt, mi 1, mi 0, mi 0] S59 (Qi fun v62 S61 => mI S61 → (-2147483648 ≤ v62 ∧ v62 ≤ 2147483647) → ((v62 = 0) → CX_shelf g [mi a1] S61 (Qi fun v64 S63 => mI S63 → (-2147483648 ≤ v64 ∧ v64 ≤ 2147483647) → CX_meaningAt g [mt, mi v64] (mup S63 68 0 0) (Qi fun v66 S65 => mI S65 → (-2147483648 ≤ v66 ∧ v66 ≤ 2147483647) → ((v66 ≠ 7) → (∃ n1, I98 n1 S65)) ∧ (¬ (v66 ≠ 7) → (-2147483648 ≤ ((v64 + 1) : Int) ∧ (v64 + 1) ≤ 2147483647) ∧ CX_gathers g [mt, mi (v64 + 1), mi a2] S65 (Qi fun v69 S68 => mI S68 → (-2147483648 ≤ v69 ∧ v69 ≤ 2147483647) → ((v69 = 0) → (∃ n1, I98 n1 S68)) ∧ (¬ (v69 = 0) → CX_child g [mt, mi v64, mi 1] S68 (Qi fun v71 S70 => mI S70 → (-2147483648 ≤ v71 ∧ v71 ≤ 2147483647) → CX_gathers g [mt, mi v71, mi a2] S70 (Qi fun v73 S72 => mI S72 → (-2147483648 ≤ v73 ∧ v73 ≤ 2147483647) → ((v73 = 0) → (∃ n1, I98 n1 S72)) ∧ (¬ (v73 = 0) → CX_degreeOf g [mt, mi 0] S72 (Qi fun v75 S74 => mI S74 → (-2147483648 ≤ v75 ∧ v75 ≤ 2147483647) → ((1 < v75) → (∃ n1, I98 n1 S74)) ∧ (¬ (1 < v75) → CX_degreeOf g [mt, mi 1] S74 (Qi fun v77 S76 => mI S76 → (-2147483648 ≤ v77 ∧ v77 ≤ 2147483647) → ((v77 ≤ 1) → CX_coefficientAt g [mi 0, mi 1] S76 (Qi fun v79 S78 => mI S78 → (-2147483648 ≤ v79 ∧ v79 ≤ 2147483647) → CX_coefficientAt g [mi 0, mi 0] S78 (Qi fun v81 S80 => mI S80 → (-2147483648 ≤ v81 ∧ v81 ≤ 2147483647) → CX_coefficientAt g [mi 1, mi 1] S80 (Qi fun v83 S82 => mI S82 → (-2147483648 ≤ v83 ∧ v83 ≤ 2147483647) → CX_coefficientAt g [mi 1, mi 0] S82 (Qi fun v85 S84 => mI S84 → (-2147483648 ≤ v85 ∧ v85 ≤ 2147483647) → CX_compareValues g [mt, mi v79, mi v83] S84 (Qi fun v87 S86 => mI S86 → (-2147483648 ≤ v87 ∧ v87 ≤ 2147483647) → ((v87 = 0) → (∃ n1, I146 n1 v79 v81 v83 v85 0 S86)) ∧ (¬ (v87 = 0) → (∃ n1, I146 n1 v79 v81 v83 v85 1 S86)))))))) ∧ (¬ (v77 ≤ 1) → (∃ n1, I98 n1 S76)))))))))))))) ∧ (¬ (v62 = 0) → Qp (some (mi 0)) S61))) ∧ (¬ (v60 ≠ 0) → CX_refused g [mt, mi 1, mi 1, mi 0] S59 (Qi fun v89 S88 => mI S88 → (-2147483648 ≤ v89 ∧ v89 ≤ 2147483647) → ((v89 = 0) → CX_shelf g [mi a1] S88 (Qi fun v91 S90 => mI S90 → (-2147483648 ≤ v91 ∧ v91 ≤ 2147483647) → CX_meaningAt g [mt, mi v91] (mup S90 68 0 0) (Qi fun v93 S92 => mI S92 → (-2147483648 ≤ v93 ∧ v93 ≤ 2147483647) → ((v93 ≠ 7) → (∃ n1, I98 n1 S92)) ∧ (¬ (v93 ≠ 7) → (-2147483648 ≤ ((v91 + 1) : Int) ∧ (v91 + 1) ≤ 2147483647) ∧ CX_gathers g [mt, mi (v91 + 1), mi a2] S92 (Qi fun v96 S95 => mI S95 → (-2147483648 ≤ v96 ∧ v96 ≤ 2147483647) → ((v96 = 0) → (∃ n1, I98 n1 S95)) ∧ (¬ (v96 = 0) → CX_child g [mt, mi v91, mi 1] S95 (Qi fun v98 S97 => mI S97 → (-2147483648 ≤ v98 ∧ v98 ≤ 2147483647) → CX_gathers g [mt, mi v98, mi a2] S97 (Qi fun v100 S99 => mI S99 → (-2147483648 ≤ v100 ∧ v100 ≤ 2147483647) → ((v100 = 0) → (∃ n1, I98 n1 S99)) ∧ (¬ (v100 = 0) → CX_degreeOf g [mt, mi 0] S99 (Qi fun v102 S101 => mI S101 → (-2147483648 ≤ v102 ∧ v102 ≤ 2147483647) → ((1 < v102) → (∃ n1, I98 n1 S101)) ∧ (¬ (1 < v102) → CX_degreeOf g [mt, mi 1] S101 (Qi fun v104 S103 => mI S103 → (-2147483648 ≤ v104 ∧ v104 ≤ 2147483647) → ((v104 ≤ 1) → CX_coefficientAt g [mi 0, mi 1] S103 (Qi fun v106 S105 => mI S105 → (-2147483648 ≤ v106 ∧ v106 ≤ 2147483647) → CX_coefficientAt g [mi 0, mi 0] S105 (Qi fun v108 S107 => mI S107 → (-2147483648 ≤ v108 ∧ v108 ≤ 2147483647) → CX_coefficientAt g [mi 1, mi 1] S107 (Qi fun v110 S109 => mI S109 → (-2147483648 ≤ v110 ∧ v110 ≤ 2147483647) → CX_coefficientAt g [mi 1, mi 0] S109 (Qi fun v112 S111 => mI S111 → (-2147483648 ≤ v112 ∧ v112 ≤ 2147483647) → CX_compareValues g [mt, mi v106, mi v110] S111 (Qi fun v114 S113 => mI S113 → (-2147483648 ≤ v114 ∧ v114 ≤ 2147483647) → ((v114 = 0) → (∃ n1, I146 n1 v106 v108 v110 v112 0 S113)) ∧ (¬ (v114 = 0) → (∃ n1, I146 n1 v106 v108 v110 v112 1 S113)))))))) ∧ (¬ (v104 ≤ 1) → (∃ n1, I98 n1 S103)))))))))))))) ∧ (¬ (v89 = 0) → Qp (some (mi 0)) S88)))))))
    (h98 : ∀ (n : Nat) (T : mS), mI T → I98 n T → Qp (some (mi (-1))) T)
    (h146 : ∀ (n : Nat) (l4 l5 l6 l7 l8 : Int) (T : mS), mI T → (-2147483648 ≤ l4 ∧ l4 ≤ 2147483647) → (-2147483648 ≤ l5 ∧ l5 ≤ 2147483647) → (-2147483648 ≤ l6 ∧ l6 ≤ 2147483647) → (-2147483648 ≤ l7 ∧ l7 ≤ 2147483647) → (-2147483648 ≤ l8 ∧ l8 ≤ 2147483647) → I146 n l4 l5 l6 l7 l8 T → ((l8 ≠ 0) → CX_setInt g [mt, mi 3600, mi 1] T (Qv fun S1 => mI S1 → CX_clearWide g [mt] S1 (Qv fun S2 => mI S2 → CX_addProduct g [mt, mi l7, mi 3600, mi 1] S2 (Qv fun S3 => mI S3 → CX_addProduct g [mt, mi l5, mi 3600, mi (-1)] S3 (Qv fun S4 => mI S4 → CX_copyWideAside g [mt] S4 (Qv fun S5 => mI S5 → CX_clearWide g [mt] S5 (Qv fun S6 => mI S6 → CX_addProduct g [mt, mi l4, mi 3600, mi 1] S6 (Qv fun S7 => mI S7 → CX_addProduct g [mt, mi l6, mi 3600, mi (-1)] S7 (Qv fun S8 => mI S8 → CX_loadAside g [mt] S8 (Qv fun S9 => mI S9 → CX_times g [mt, mi 0, mi 2, mi 9] S9 (Qv fun S10 => mI S10 → CX_times g [mt, mi 1, mi 3, mi 8] S10 (Qv fun S11 => mI S11 → (-2147483648 ≤ (((S4 69 0) * (S11 69 0)) : Int) ∧ ((S4 69 0) * (S11 69 0)) ≤ 2147483647) ∧ CX_store g [mt, mi 26, mi ((S4 69 0) * (S11 69 0))] S11 (Qi fun v14 S13 => mI S13 → (-2147483648 ≤ v14 ∧ v14 ≤ 2147483647) → ((v14 = 0) → Qp (some (mi (-1))) S13) ∧ (¬ (v14 = 0) → Qp (some (mi 1)) S13)))))))))))))) ∧ (¬ (l8 ≠ 0) → CX_compareValues g [mt, mi l5, mi l7] T (Qi fun v16 S15 => mI S15 → (-2147483648 ≤ v16 ∧ v16 ≤ 2147483647) → ((v16 ≠ 0) → Qp (some (mi 0)) S15) ∧ (¬ (v16 ≠ 0) → Qp (some (mi 2)) S15))))
    : CX_solve g [mt, mi a1, mi a2] S Qp := by
  refine cm_y ⟨by decide, rfl⟩ (by simp [mcat]) (by simp) (fun n pc L st S => (pc = 98 ∧ L = [some mt, none, none, none, none, none, none, none, none, none] ∧ st = [] ∧ I98 n S) ∨ (pc = 146 ∧ ∃ (l4 : Int) (l5 : Int) (l6 : Int) (l7 : Int) (l8 : Int), L = [some mt, none, none, none, some (mi l4), some (mi l5), some (mi l6), some (mi l7), some (mi l8), none] ∧ st = [] ∧ I146 n l4 l5 l6 l7 l8 S)) ?_ ?_
  · intro ha hS P Y Wk hIc
    have h := hE hS (mokI (ha (mi a1) (by simp))) (mokI (ha (mi a2) (by simp)))
    clear hE ha h98 h146
    refine y_aload_n 0 Y dX6_solve_0 rfl ?_
    refine y_aload_n 1 Y dX6_solve_1 rfl ?_
    refine y_iload_n 2 Y dX6_solve_2 rfl ?_
    refine y_call 3 Y (as := [mi a1]) [mt] dX6_solve_3 rfl rfl rfl rfl rfl h (fun r S1 hq hI hr => ?_)
    obtain ⟨v2, rfl, h⟩ := Qi_ok hq
    replace h := h hI (mokI (hr _ rfl))
    clear hq hr
    refine y_if 6 13 Y dX6_solve_6 rfl rfl (fun c => ?_) (fun c => ?_)
    · replace h := h.1 c
      refine y_iconst 13 Y dX6_solve_13 rfl ?_
      refine y_iload_n 14 Y dX6_solve_14 rfl ?_
      refine y_calls 15 Y (as := [mi a2]) [mi 0, mt] dX6_solve_15 rfl rfl rfl rfl rfl h (fun r S3 hq hI hr => ?_)
      obtain ⟨v4, rfl, h⟩ := Qi_ok hq
      replace h := h hI (mokI (hr _ rfl))
      clear hq hr
      refine y_if 18 25 Y dX6_solve_18 rfl rfl (fun c => ?_) (fun c => ?_)
      · replace h := h.1 c
        refine y_iconst 25 Y dX6_solve_25 rfl ?_
        refine y_iconst 26 Y dX6_solve_26 rfl ?_
        refine y_call 27 Y (as := [mi 0, mi 0, mi 0]) [] dX6_solve_27 rfl rfl rfl rfl rfl h (fun r S5 hq hI hr => ?_)
        obtain ⟨v6, rfl, h⟩ := Qi_ok hq
        replace h := h hI (mokI (hr _ rfl))
        clear hq hr
        refine y_if 30 35 Y dX6_solve_30 rfl rfl (fun c => ?_) (fun c => ?_)
        · replace h := h.1 c
          refine y_iload_n 35 Y dX6_solve_35 rfl ?_
          refine y_calls 36 Y (as := [mi a1]) [] dX6_solve_36 rfl rfl rfl rfl rfl h (fun r S7 hq hI hr => ?_)
          obtain ⟨v8, rfl, h⟩ := Qi_ok hq
          replace h := h hI (mokI (hr _ rfl))
          clear hq hr
          refine y_istore_n 39 Y [some mt, some (mi a1), some (mi a2), some (mi v8), none, none, none, none, none, none] dX6_solve_39 rfl rfl ?_
          refine y_aload_n 40 Y dX6_solve_40 rfl ?_
          refine y_iconst 41 Y dX6_solve_41 rfl ?_
          refine y_putf 42 Y 68 dX6_solve_42 rfl rfl (fun q => absurd q (by decide)) ?_
          refine y_aload_n 45 Y dX6_solve_45 rfl ?_
          refine y_iload_n 46 Y dX6_solve_46 rfl ?_
          refine y_call 47 Y (as := [mi v8]) [] dX6_solve_47 rfl rfl rfl rfl rfl h (fun r S9 hq hI hr => ?_)
          obtain ⟨v10, rfl, h⟩ := Qi_ok hq
          replace h := h hI (mokI (hr _ rfl))
          clear hq hr
          refine y_bipush 50 Y dX6_solve_50 rfl ?_
          refine y_icmp 52 98 Y dX6_solve_52 rfl rfl (fun c => ?_) (fun c => ?_)
          · replace h := h.1 c
            obtain ⟨n1, h⟩ := h
            exact Wk 98 _ [some mt, none, none, none, none, none, none, none, none, none] _ _ ⟨rfl, trivial⟩ (hIc n1 _ _ _ _ (Or.inl (⟨rfl, rfl, rfl, h⟩)))
          · replace h := h.2 c
            refine y_aload_n 55 Y dX6_solve_55 rfl ?_
            refine y_iload_n 56 Y dX6_solve_56 rfl ?_
            refine y_iconst 57 Y dX6_solve_57 rfl ?_
            obtain ⟨o11, h⟩ := h
            refine y_iadd 58 Y dX6_solve_58 o11 ?_
            refine y_iload_n 59 Y dX6_solve_59 rfl ?_
            refine y_call 60 Y (as := [mi (v8 + 1), mi a2]) [] dX6_solve_60 rfl rfl rfl rfl rfl h (fun r S12 hq hI hr => ?_)
            obtain ⟨v13, rfl, h⟩ := Qi_ok hq
            replace h := h hI (mokI (hr _ rfl))
            clear hq hr
            refine y_if 63 98 Y dX6_solve_63 rfl rfl (fun c => ?_) (fun c => ?_)
            · replace h := h.1 c
              obtain ⟨n1, h⟩ := h
              exact Wk 98 _ [some mt, none, none, none, none, none, none, none, none, none] _ _ ⟨rfl, trivial⟩ (hIc n1 _ _ _ _ (Or.inl (⟨rfl, rfl, rfl, h⟩)))
            · replace h := h.2 c
              refine y_aload_n 66 Y dX6_solve_66 rfl ?_
              refine y_aload_n 67 Y dX6_solve_67 rfl ?_
              refine y_iload_n 68 Y dX6_solve_68 rfl ?_
              refine y_iconst 69 Y dX6_solve_69 rfl ?_
              refine y_call 70 Y (as := [mi v8, mi 1]) [mt] dX6_solve_70 rfl rfl rfl rfl rfl h (fun r S14 hq hI hr => ?_)
              obtain ⟨v15, rfl, h⟩ := Qi_ok hq
              replace h := h hI (mokI (hr _ rfl))
              clear hq hr
              refine y_iload_n 73 Y dX6_solve_73 rfl ?_
              refine y_call 74 Y (as := [mi v15, mi a2]) [] dX6_solve_74 rfl rfl rfl rfl rfl h (fun r S16 hq hI hr => ?_)
              obtain ⟨v17, rfl, h⟩ := Qi_ok hq
              replace h := h hI (mokI (hr _ rfl))
              clear hq hr
              refine y_if 77 98 Y dX6_solve_77 rfl rfl (fun c => ?_) (fun c => ?_)
              · replace h := h.1 c
                obtain ⟨n1, h⟩ := h
                exact Wk 98 _ [some mt, none, none, none, none, none, none, none, none, none] _ _ ⟨rfl, trivial⟩ (hIc n1 _ _ _ _ (Or.inl (⟨rfl, rfl, rfl, h⟩)))
              · replace h := h.2 c
                refine y_aload_n 80 Y dX6_solve_80 rfl ?_
                refine y_iconst 81 Y dX6_solve_81 rfl ?_
                refine y_call 82 Y (as := [mi 0]) [] dX6_solve_82 rfl rfl rfl rfl rfl h (fun r S18 hq hI hr => ?_)
                obtain ⟨v19, rfl, h⟩ := Qi_ok hq
                replace h := h hI (mokI (hr _ rfl))
                clear hq hr
                refine y_iconst 85 Y dX6_solve_85 rfl ?_
                refine y_icmp 86 98 Y dX6_solve_86 rfl rfl (fun c => ?_) (fun c => ?_)
                · replace h := h.1 c
                  obtain ⟨n1, h⟩ := h
                  exact Wk 98 _ [some mt, none, none, none, none, none, none, none, none, none] _ _ ⟨rfl, trivial⟩ (hIc n1 _ _ _ _ (Or.inl (⟨rfl, rfl, rfl, h⟩)))
                · replace h := h.2 c
                  refine y_aload_n 89 Y dX6_solve_89 rfl ?_
                  refine y_iconst 90 Y dX6_solve_90 rfl ?_
                  refine y_call 91 Y (as := [mi 1]) [] dX6_solve_91 rfl rfl rfl rfl rfl h (fun r S20 hq hI hr => ?_)
                  obtain ⟨v21, rfl, h⟩ := Qi_ok hq
                  replace h := h hI (mokI (hr _ rfl))
                  clear hq hr
                  refine y_iconst 94 Y dX6_solve_94 rfl ?_
                  refine y_icmp 95 100 Y dX6_solve_95 rfl rfl (fun c => ?_) (fun c => ?_)
                  · replace h := h.1 c
                    refine y_iconst 100 Y dX6_solve_100 rfl ?_
                    refine y_iconst 101 Y dX6_solve_101 rfl ?_
                    refine y_calls 102 Y (as := [mi 0, mi 1]) [] dX6_solve_102 rfl rfl rfl rfl rfl h (fun r S22 hq hI hr => ?_)
                    obtain ⟨v23, rfl, h⟩ := Qi_ok hq
                    replace h := h hI (mokI (hr _ rfl))
                    clear hq hr
                    refine y_istore 105 Y [some mt, some (mi a1), some (mi a2), some (mi v8), some (mi v23), none, none, none, none, none] dX6_solve_105 rfl rfl ?_
                    refine y_iconst 107 Y dX6_solve_107 rfl ?_
                    refine y_iconst 108 Y dX6_solve_108 rfl ?_
                    refine y_calls 109 Y (as := [mi 0, mi 0]) [] dX6_solve_109 rfl rfl rfl rfl rfl h (fun r S24 hq hI hr => ?_)
                    obtain ⟨v25, rfl, h⟩ := Qi_ok hq
                    replace h := h hI (mokI (hr _ rfl))
                    clear hq hr
                    refine y_istore 112 Y [some mt, some (mi a1), some (mi a2), some (mi v8), some (mi v23), some (mi v25), none, none, none, none] dX6_solve_112 rfl rfl ?_
                    refine y_iconst 114 Y dX6_solve_114 rfl ?_
                    refine y_iconst 115 Y dX6_solve_115 rfl ?_
                    refine y_calls 116 Y (as := [mi 1, mi 1]) [] dX6_solve_116 rfl rfl rfl rfl rfl h (fun r S26 hq hI hr => ?_)
                    obtain ⟨v27, rfl, h⟩ := Qi_ok hq
                    replace h := h hI (mokI (hr _ rfl))
                    clear hq hr
                    refine y_istore 119 Y [some mt, some (mi a1), some (mi a2), some (mi v8), some (mi v23), some (mi v25), some (mi v27), none, none, none] dX6_solve_119 rfl rfl ?_
                    refine y_iconst 121 Y dX6_solve_121 rfl ?_
                    refine y_iconst 122 Y dX6_solve_122 rfl ?_
                    refine y_calls 123 Y (as := [mi 1, mi 0]) [] dX6_solve_123 rfl rfl rfl rfl rfl h (fun r S28 hq hI hr => ?_)
                    obtain ⟨v29, rfl, h⟩ := Qi_ok hq
                    replace h := h hI (mokI (hr _ rfl))
                    clear hq hr
                    refine y_istore 126 Y [some mt, some (mi a1), some (mi a2), some (mi v8), some (mi v23), some (mi v25), some (mi v27), some (mi v29), none, none] dX6_solve_126 rfl rfl ?_
                    refine y_aload_n 128 Y dX6_solve_128 rfl ?_
                    refine y_iload 129 Y dX6_solve_129 rfl ?_
                    refine y_iload 131 Y dX6_solve_131 rfl ?_
                    refine y_call 133 Y (as := [mi v23, mi v27]) [] dX6_solve_133 rfl rfl rfl rfl rfl h (fun r S30 hq hI hr => ?_)
                    obtain ⟨v31, rfl, h⟩ := Qi_ok hq
                    replace h := h hI (mokI (hr _ rfl))
                    clear hq hr
                    refine y_if 136 143 Y dX6_solve_136 rfl rfl (fun c => ?_) (fun c => ?_)
                    · replace h := h.1 c
                      refine y_iconst 143 Y dX6_solve_143 rfl ?_
                      refine y_istore 144 Y [some mt, some (mi a1), some (mi a2), some (mi v8), some (mi v23), some (mi v25), some (mi v27), some (mi v29), some (mi 0), none] dX6_solve_144 rfl rfl ?_
                      obtain ⟨n1, h⟩ := h
                      exact Wk 146 _ [some mt, none, none, none, some (mi v23), some (mi v25), some (mi v27), some (mi v29), some (mi 0), none] _ _ ⟨rfl, ⟨rfl, ⟨rfl, ⟨rfl, ⟨rfl, ⟨rfl, trivial⟩⟩⟩⟩⟩⟩ (hIc n1 _ _ _ _ (Or.inr ((⟨rfl, _, _, _, _, _, rfl, rfl, h⟩))))
                    · replace h := h.2 c
                      refine y_iconst 139 Y dX6_solve_139 rfl ?_
                      refine y_goto 140 144 Y dX6_solve_140 rfl rfl ?_
                      refine y_istore 144 Y [some mt, some (mi a1), some (mi a2), some (mi v8), some (mi v23), some (mi v25), some (mi v27), some (mi v29), some (mi 1), none] dX6_solve_144 rfl rfl ?_
                      obtain ⟨n1, h⟩ := h
                      exact Wk 146 _ [some mt, none, none, none, some (mi v23), some (mi v25), some (mi v27), some (mi v29), some (mi 1), none] _ _ ⟨rfl, ⟨rfl, ⟨rfl, ⟨rfl, ⟨rfl, ⟨rfl, trivial⟩⟩⟩⟩⟩⟩ (hIc n1 _ _ _ _ (Or.inr ((⟨rfl, _, _, _, _, _, rfl, rfl, h⟩))))
                  · replace h := h.2 c
                    obtain ⟨n1, h⟩ := h
                    exact Wk 98 _ [some mt, none, none, none, none, none, none, none, none, none] _ _ ⟨rfl, trivial⟩ (hIc n1 _ _ _ _ (Or.inl (⟨rfl, rfl, rfl, h⟩)))
        · replace h := h.2 c
          refine y_iconst 33 Y dX6_solve_33 rfl ?_
          exact y_iret 34 Y dX6_solve_34 rfl h
      · replace h := h.2 c
        refine y_iconst 21 Y dX6_solve_21 rfl ?_
        refine y_goto 22 26 Y dX6_solve_22 rfl rfl ?_
        refine y_iconst 26 Y dX6_solve_26 rfl ?_
        refine y_call 27 Y (as := [mi 0, mi 1, mi 0]) [] dX6_solve_27 rfl rfl rfl rfl rfl h (fun r S32 hq hI hr => ?_)
        obtain ⟨v33, rfl, h⟩ := Qi_ok hq
        replace h := h hI (mokI (hr _ rfl))
        clear hq hr
        refine y_if 30 35 Y dX6_solve_30 rfl rfl (fun c => ?_) (fun c => ?_)
        · replace h := h.1 c
          refine y_iload_n 35 Y dX6_solve_35 rfl ?_
          refine y_calls 36 Y (as := [mi a1]) [] dX6_solve_36 rfl rfl rfl rfl rfl h (fun r S34 hq hI hr => ?_)
          obtain ⟨v35, rfl, h⟩ := Qi_ok hq
          replace h := h hI (mokI (hr _ rfl))
          clear hq hr
          refine y_istore_n 39 Y [some mt, some (mi a1), some (mi a2), some (mi v35), none, none, none, none, none, none] dX6_solve_39 rfl rfl ?_
          refine y_aload_n 40 Y dX6_solve_40 rfl ?_
          refine y_iconst 41 Y dX6_solve_41 rfl ?_
          refine y_putf 42 Y 68 dX6_solve_42 rfl rfl (fun q => absurd q (by decide)) ?_
          refine y_aload_n 45 Y dX6_solve_45 rfl ?_
          refine y_iload_n 46 Y dX6_solve_46 rfl ?_
          refine y_call 47 Y (as := [mi v35]) [] dX6_solve_47 rfl rfl rfl rfl rfl h (fun r S36 hq hI hr => ?_)
          obtain ⟨v37, rfl, h⟩ := Qi_ok hq
          replace h := h hI (mokI (hr _ rfl))
          clear hq hr
          refine y_bipush 50 Y dX6_solve_50 rfl ?_
          refine y_icmp 52 98 Y dX6_solve_52 rfl rfl (fun c => ?_) (fun c => ?_)
          · replace h := h.1 c
            obtain ⟨n1, h⟩ := h
            exact Wk 98 _ [some mt, none, none, none, none, none, none, none, none, none] _ _ ⟨rfl, trivial⟩ (hIc n1 _ _ _ _ (Or.inl (⟨rfl, rfl, rfl, h⟩)))
          · replace h := h.2 c
            refine y_aload_n 55 Y dX6_solve_55 rfl ?_
            refine y_iload_n 56 Y dX6_solve_56 rfl ?_
            refine y_iconst 57 Y dX6_solve_57 rfl ?_
            obtain ⟨o38, h⟩ := h
            refine y_iadd 58 Y dX6_solve_58 o38 ?_
            refine y_iload_n 59 Y dX6_solve_59 rfl ?_
            refine y_call 60 Y (as := [mi (v35 + 1), mi a2]) [] dX6_solve_60 rfl rfl rfl rfl rfl h (fun r S39 hq hI hr => ?_)
            obtain ⟨v40, rfl, h⟩ := Qi_ok hq
            replace h := h hI (mokI (hr _ rfl))
            clear hq hr
            refine y_if 63 98 Y dX6_solve_63 rfl rfl (fun c => ?_) (fun c => ?_)
            · replace h := h.1 c
              obtain ⟨n1, h⟩ := h
              exact Wk 98 _ [some mt, none, none, none, none, none, none, none, none, none] _ _ ⟨rfl, trivial⟩ (hIc n1 _ _ _ _ (Or.inl (⟨rfl, rfl, rfl, h⟩)))
            · replace h := h.2 c
              refine y_aload_n 66 Y dX6_solve_66 rfl ?_
              refine y_aload_n 67 Y dX6_solve_67 rfl ?_
              refine y_iload_n 68 Y dX6_solve_68 rfl ?_
              refine y_iconst 69 Y dX6_solve_69 rfl ?_
              refine y_call 70 Y (as := [mi v35, mi 1]) [mt] dX6_solve_70 rfl rfl rfl rfl rfl h (fun r S41 hq hI hr => ?_)
              obtain ⟨v42, rfl, h⟩ := Qi_ok hq
              replace h := h hI (mokI (hr _ rfl))
              clear hq hr
              refine y_iload_n 73 Y dX6_solve_73 rfl ?_
              refine y_call 74 Y (as := [mi v42, mi a2]) [] dX6_solve_74 rfl rfl rfl rfl rfl h (fun r S43 hq hI hr => ?_)
              obtain ⟨v44, rfl, h⟩ := Qi_ok hq
              replace h := h hI (mokI (hr _ rfl))
              clear hq hr
              refine y_if 77 98 Y dX6_solve_77 rfl rfl (fun c => ?_) (fun c => ?_)
              · replace h := h.1 c
                obtain ⟨n1, h⟩ := h
                exact Wk 98 _ [some mt, none, none, none, none, none, none, none, none, none] _ _ ⟨rfl, trivial⟩ (hIc n1 _ _ _ _ (Or.inl (⟨rfl, rfl, rfl, h⟩)))
              · replace h := h.2 c
                refine y_aload_n 80 Y dX6_solve_80 rfl ?_
                refine y_iconst 81 Y dX6_solve_81 rfl ?_
                refine y_call 82 Y (as := [mi 0]) [] dX6_solve_82 rfl rfl rfl rfl rfl h (fun r S45 hq hI hr => ?_)
                obtain ⟨v46, rfl, h⟩ := Qi_ok hq
                replace h := h hI (mokI (hr _ rfl))
                clear hq hr
                refine y_iconst 85 Y dX6_solve_85 rfl ?_
                refine y_icmp 86 98 Y dX6_solve_86 rfl rfl (fun c => ?_) (fun c => ?_)
                · replace h := h.1 c
                  obtain ⟨n1, h⟩ := h
                  exact Wk 98 _ [some mt, none, none, none, none, none, none, none, none, none] _ _ ⟨rfl, trivial⟩ (hIc n1 _ _ _ _ (Or.inl (⟨rfl, rfl, rfl, h⟩)))
                · replace h := h.2 c
                  refine y_aload_n 89 Y dX6_solve_89 rfl ?_
                  refine y_iconst 90 Y dX6_solve_90 rfl ?_
                  refine y_call 91 Y (as := [mi 1]) [] dX6_solve_91 rfl rfl rfl rfl rfl h (fun r S47 hq hI hr => ?_)
                  obtain ⟨v48, rfl, h⟩ := Qi_ok hq
                  replace h := h hI (mokI (hr _ rfl))
                  clear hq hr
                  refine y_iconst 94 Y dX6_solve_94 rfl ?_
                  refine y_icmp 95 100 Y dX6_solve_95 rfl rfl (fun c => ?_) (fun c => ?_)
                  · replace h := h.1 c
                    refine y_iconst 100 Y dX6_solve_100 rfl ?_
                    refine y_iconst 101 Y dX6_solve_101 rfl ?_
                    refine y_calls 102 Y (as := [mi 0, mi 1]) [] dX6_solve_102 rfl rfl rfl rfl rfl h (fun r S49 hq hI hr => ?_)
                    obtain ⟨v50, rfl, h⟩ := Qi_ok hq
                    replace h := h hI (mokI (hr _ rfl))
                    clear hq hr
                    refine y_istore 105 Y [some mt, some (mi a1), some (mi a2), some (mi v35), some (mi v50), none, none, none, none, none] dX6_solve_105 rfl rfl ?_
                    refine y_iconst 107 Y dX6_solve_107 rfl ?_
                    refine y_iconst 108 Y dX6_solve_108 rfl ?_
                    refine y_calls 109 Y (as := [mi 0, mi 0]) [] dX6_solve_109 rfl rfl rfl rfl rfl h (fun r S51 hq hI hr => ?_)
                    obtain ⟨v52, rfl, h⟩ := Qi_ok hq
                    replace h := h hI (mokI (hr _ rfl))
                    clear hq hr
                    refine y_istore 112 Y [some mt, some (mi a1), some (mi a2), some (mi v35), some (mi v50), some (mi v52), none, none, none, none] dX6_solve_112 rfl rfl ?_
                    refine y_iconst 114 Y dX6_solve_114 rfl ?_
                    refine y_iconst 115 Y dX6_solve_115 rfl ?_
                    refine y_calls 116 Y (as := [mi 1, mi 1]) [] dX6_solve_116 rfl rfl rfl rfl rfl h (fun r S53 hq hI hr => ?_)
                    obtain ⟨v54, rfl, h⟩ := Qi_ok hq
                    replace h := h hI (mokI (hr _ rfl))
                    clear hq hr
                    refine y_istore 119 Y [some mt, some (mi a1), some (mi a2), some (mi v35), some (mi v50), some (mi v52), some (mi v54), none, none, none] dX6_solve_119 rfl rfl ?_
                    refine y_iconst 121 Y dX6_solve_121 rfl ?_
                    refine y_iconst 122 Y dX6_solve_122 rfl ?_
                    refine y_calls 123 Y (as := [mi 1, mi 0]) [] dX6_solve_123 rfl rfl rfl rfl rfl h (fun r S55 hq hI hr => ?_)
                    obtain ⟨v56, rfl, h⟩ := Qi_ok hq
                    replace h := h hI (mokI (hr _ rfl))
                    clear hq hr
                    refine y_istore 126 Y [some mt, some (mi a1), some (mi a2), some (mi v35), some (mi v50), some (mi v52), some (mi v54), some (mi v56), none, none] dX6_solve_126 rfl rfl ?_
                    refine y_aload_n 128 Y dX6_solve_128 rfl ?_
                    refine y_iload 129 Y dX6_solve_129 rfl ?_
                    refine y_iload 131 Y dX6_solve_131 rfl ?_
                    refine y_call 133 Y (as := [mi v50, mi v54]) [] dX6_solve_133 rfl rfl rfl rfl rfl h (fun r S57 hq hI hr => ?_)
                    obtain ⟨v58, rfl, h⟩ := Qi_ok hq
                    replace h := h hI (mokI (hr _ rfl))
                    clear hq hr
                    refine y_if 136 143 Y dX6_solve_136 rfl rfl (fun c => ?_) (fun c => ?_)
                    · replace h := h.1 c
                      refine y_iconst 143 Y dX6_solve_143 rfl ?_
                      refine y_istore 144 Y [some mt, some (mi a1), some (mi a2), some (mi v35), some (mi v50), some (mi v52), some (mi v54), some (mi v56), some (mi 0), none] dX6_solve_144 rfl rfl ?_
                      obtain ⟨n1, h⟩ := h
                      exact Wk 146 _ [some mt, none, none, none, some (mi v50), some (mi v52), some (mi v54), some (mi v56), some (mi 0), none] _ _ ⟨rfl, ⟨rfl, ⟨rfl, ⟨rfl, ⟨rfl, ⟨rfl, trivial⟩⟩⟩⟩⟩⟩ (hIc n1 _ _ _ _ (Or.inr ((⟨rfl, _, _, _, _, _, rfl, rfl, h⟩))))
                    · replace h := h.2 c
                      refine y_iconst 139 Y dX6_solve_139 rfl ?_
                      refine y_goto 140 144 Y dX6_solve_140 rfl rfl ?_
                      refine y_istore 144 Y [some mt, some (mi a1), some (mi a2), some (mi v35), some (mi v50), some (mi v52), some (mi v54), some (mi v56), some (mi 1), none] dX6_solve_144 rfl rfl ?_
                      obtain ⟨n1, h⟩ := h
                      exact Wk 146 _ [some mt, none, none, none, some (mi v50), some (mi v52), some (mi v54), some (mi v56), some (mi 1), none] _ _ ⟨rfl, ⟨rfl, ⟨rfl, ⟨rfl, ⟨rfl, ⟨rfl, trivial⟩⟩⟩⟩⟩⟩ (hIc n1 _ _ _ _ (Or.inr ((⟨rfl, _, _, _, _, _, rfl, rfl, h⟩))))
                  · replace h := h.2 c
                    obtain ⟨n1, h⟩ := h
                    exact Wk 98 _ [some mt, none, none, none, none, none, none, none, none, none] _ _ ⟨rfl, trivial⟩ (hIc n1 _ _ _ _ (Or.inl (⟨rfl, rfl, rfl, h⟩)))
        · replace h := h.2 c
          refine y_iconst 33 Y dX6_solve_33 rfl ?_
          exact y_iret 34 Y dX6_solve_34 rfl h
    · replace h := h.2 c
      refine y_iconst 9 Y dX6_solve_9 rfl ?_
      refine y_goto 10 14 Y dX6_solve_10 rfl rfl ?_
      refine y_iload_n 14 Y dX6_solve_14 rfl ?_
      refine y_calls 15 Y (as := [mi a2]) [mi 1, mt] dX6_solve_15 rfl rfl rfl rfl rfl h (fun r S59 hq hI hr => ?_)
      obtain ⟨v60, rfl, h⟩ := Qi_ok hq
      replace h := h hI (mokI (hr _ rfl))
      clear hq hr
      refine y_if 18 25 Y dX6_solve_18 rfl rfl (fun c => ?_) (fun c => ?_)
      · replace h := h.1 c
        refine y_iconst 25 Y dX6_solve_25 rfl ?_
        refine y_iconst 26 Y dX6_solve_26 rfl ?_
        refine y_call 27 Y (as := [mi 1, mi 0, mi 0]) [] dX6_solve_27 rfl rfl rfl rfl rfl h (fun r S61 hq hI hr => ?_)
        obtain ⟨v62, rfl, h⟩ := Qi_ok hq
        replace h := h hI (mokI (hr _ rfl))
        clear hq hr
        refine y_if 30 35 Y dX6_solve_30 rfl rfl (fun c => ?_) (fun c => ?_)
        · replace h := h.1 c
          refine y_iload_n 35 Y dX6_solve_35 rfl ?_
          refine y_calls 36 Y (as := [mi a1]) [] dX6_solve_36 rfl rfl rfl rfl rfl h (fun r S63 hq hI hr => ?_)
          obtain ⟨v64, rfl, h⟩ := Qi_ok hq
          replace h := h hI (mokI (hr _ rfl))
          clear hq hr
          refine y_istore_n 39 Y [some mt, some (mi a1), some (mi a2), some (mi v64), none, none, none, none, none, none] dX6_solve_39 rfl rfl ?_
          refine y_aload_n 40 Y dX6_solve_40 rfl ?_
          refine y_iconst 41 Y dX6_solve_41 rfl ?_
          refine y_putf 42 Y 68 dX6_solve_42 rfl rfl (fun q => absurd q (by decide)) ?_
          refine y_aload_n 45 Y dX6_solve_45 rfl ?_
          refine y_iload_n 46 Y dX6_solve_46 rfl ?_
          refine y_call 47 Y (as := [mi v64]) [] dX6_solve_47 rfl rfl rfl rfl rfl h (fun r S65 hq hI hr => ?_)
          obtain ⟨v66, rfl, h⟩ := Qi_ok hq
          replace h := h hI (mokI (hr _ rfl))
          clear hq hr
          refine y_bipush 50 Y dX6_solve_50 rfl ?_
          refine y_icmp 52 98 Y dX6_solve_52 rfl rfl (fun c => ?_) (fun c => ?_)
          · replace h := h.1 c
            obtain ⟨n1, h⟩ := h
            exact Wk 98 _ [some mt, none, none, none, none, none, none, none, none, none] _ _ ⟨rfl, trivial⟩ (hIc n1 _ _ _ _ (Or.inl (⟨rfl, rfl, rfl, h⟩)))
          · replace h := h.2 c
            refine y_aload_n 55 Y dX6_solve_55 rfl ?_
            refine y_iload_n 56 Y dX6_solve_56 rfl ?_
            refine y_iconst 57 Y dX6_solve_57 rfl ?_
            obtain ⟨o67, h⟩ := h
            refine y_iadd 58 Y dX6_solve_58 o67 ?_
            refine y_iload_n 59 Y dX6_solve_59 rfl ?_
            refine y_call 60 Y (as := [mi (v64 + 1), mi a2]) [] dX6_solve_60 rfl rfl rfl rfl rfl h (fun r S68 hq hI hr => ?_)
            obtain ⟨v69, rfl, h⟩ := Qi_ok hq
            replace h := h hI (mokI (hr _ rfl))
            clear hq hr
            refine y_if 63 98 Y dX6_solve_63 rfl rfl (fun c => ?_) (fun c => ?_)
            · replace h := h.1 c
              obtain ⟨n1, h⟩ := h
              exact Wk 98 _ [some mt, none, none, none, none, none, none, none, none, none] _ _ ⟨rfl, trivial⟩ (hIc n1 _ _ _ _ (Or.inl (⟨rfl, rfl, rfl, h⟩)))
            · replace h := h.2 c
              refine y_aload_n 66 Y dX6_solve_66 rfl ?_
              refine y_aload_n 67 Y dX6_solve_67 rfl ?_
              refine y_iload_n 68 Y dX6_solve_68 rfl ?_
              refine y_iconst 69 Y dX6_solve_69 rfl ?_
              refine y_call 70 Y (as := [mi v64, mi 1]) [mt] dX6_solve_70 rfl rfl rfl rfl rfl h (fun r S70 hq hI hr => ?_)
              obtain ⟨v71, rfl, h⟩ := Qi_ok hq
              replace h := h hI (mokI (hr _ rfl))
              clear hq hr
              refine y_iload_n 73 Y dX6_solve_73 rfl ?_
              refine y_call 74 Y (as := [mi v71, mi a2]) [] dX6_solve_74 rfl rfl rfl rfl rfl h (fun r S72 hq hI hr => ?_)
              obtain ⟨v73, rfl, h⟩ := Qi_ok hq
              replace h := h hI (mokI (hr _ rfl))
              clear hq hr
              refine y_if 77 98 Y dX6_solve_77 rfl rfl (fun c => ?_) (fun c => ?_)
              · replace h := h.1 c
                obtain ⟨n1, h⟩ := h
                exact Wk 98 _ [some mt, none, none, none, none, none, none, none, none, none] _ _ ⟨rfl, trivial⟩ (hIc n1 _ _ _ _ (Or.inl (⟨rfl, rfl, rfl, h⟩)))
              · replace h := h.2 c
                refine y_aload_n 80 Y dX6_solve_80 rfl ?_
                refine y_iconst 81 Y dX6_solve_81 rfl ?_
                refine y_call 82 Y (as := [mi 0]) [] dX6_solve_82 rfl rfl rfl rfl rfl h (fun r S74 hq hI hr => ?_)
                obtain ⟨v75, rfl, h⟩ := Qi_ok hq
                replace h := h hI (mokI (hr _ rfl))
                clear hq hr
                refine y_iconst 85 Y dX6_solve_85 rfl ?_
                refine y_icmp 86 98 Y dX6_solve_86 rfl rfl (fun c => ?_) (fun c => ?_)
                · replace h := h.1 c
                  obtain ⟨n1, h⟩ := h
                  exact Wk 98 _ [some mt, none, none, none, none, none, none, none, none, none] _ _ ⟨rfl, trivial⟩ (hIc n1 _ _ _ _ (Or.inl (⟨rfl, rfl, rfl, h⟩)))
                · replace h := h.2 c
                  refine y_aload_n 89 Y dX6_solve_89 rfl ?_
                  refine y_iconst 90 Y dX6_solve_90 rfl ?_
                  refine y_call 91 Y (as := [mi 1]) [] dX6_solve_91 rfl rfl rfl rfl rfl h (fun r S76 hq hI hr => ?_)
                  obtain ⟨v77, rfl, h⟩ := Qi_ok hq
                  replace h := h hI (mokI (hr _ rfl))
                  clear hq hr
                  refine y_iconst 94 Y dX6_solve_94 rfl ?_
                  refine y_icmp 95 100 Y dX6_solve_95 rfl rfl (fun c => ?_) (fun c => ?_)
                  · replace h := h.1 c
                    refine y_iconst 100 Y dX6_solve_100 rfl ?_
                    refine y_iconst 101 Y dX6_solve_101 rfl ?_
                    refine y_calls 102 Y (as := [mi 0, mi 1]) [] dX6_solve_102 rfl rfl rfl rfl rfl h (fun r S78 hq hI hr => ?_)
                    obtain ⟨v79, rfl, h⟩ := Qi_ok hq
                    replace h := h hI (mokI (hr _ rfl))
                    clear hq hr
                    refine y_istore 105 Y [some mt, some (mi a1), some (mi a2), some (mi v64), some (mi v79), none, none, none, none, none] dX6_solve_105 rfl rfl ?_
                    refine y_iconst 107 Y dX6_solve_107 rfl ?_
                    refine y_iconst 108 Y dX6_solve_108 rfl ?_
                    refine y_calls 109 Y (as := [mi 0, mi 0]) [] dX6_solve_109 rfl rfl rfl rfl rfl h (fun r S80 hq hI hr => ?_)
                    obtain ⟨v81, rfl, h⟩ := Qi_ok hq
                    replace h := h hI (mokI (hr _ rfl))
                    clear hq hr
                    refine y_istore 112 Y [some mt, some (mi a1), some (mi a2), some (mi v64), some (mi v79), some (mi v81), none, none, none, none] dX6_solve_112 rfl rfl ?_
                    refine y_iconst 114 Y dX6_solve_114 rfl ?_
                    refine y_iconst 115 Y dX6_solve_115 rfl ?_
                    refine y_calls 116 Y (as := [mi 1, mi 1]) [] dX6_solve_116 rfl rfl rfl rfl rfl h (fun r S82 hq hI hr => ?_)
                    obtain ⟨v83, rfl, h⟩ := Qi_ok hq
                    replace h := h hI (mokI (hr _ rfl))
                    clear hq hr
                    refine y_istore 119 Y [some mt, some (mi a1), some (mi a2), some (mi v64), some (mi v79), some (mi v81), some (mi v83), none, none, none] dX6_solve_119 rfl rfl ?_
                    refine y_iconst 121 Y dX6_solve_121 rfl ?_
                    refine y_iconst 122 Y dX6_solve_122 rfl ?_
                    refine y_calls 123 Y (as := [mi 1, mi 0]) [] dX6_solve_123 rfl rfl rfl rfl rfl h (fun r S84 hq hI hr => ?_)
                    obtain ⟨v85, rfl, h⟩ := Qi_ok hq
                    replace h := h hI (mokI (hr _ rfl))
                    clear hq hr
                    refine y_istore 126 Y [some mt, some (mi a1), some (mi a2), some (mi v64), some (mi v79), some (mi v81), some (mi v83), some (mi v85), none, none] dX6_solve_126 rfl rfl ?_
                    refine y_aload_n 128 Y dX6_solve_128 rfl ?_
                    refine y_iload 129 Y dX6_solve_129 rfl ?_
                    refine y_iload 131 Y dX6_solve_131 rfl ?_
                    refine y_call 133 Y (as := [mi v79, mi v83]) [] dX6_solve_133 rfl rfl rfl rfl rfl h (fun r S86 hq hI hr => ?_)
                    obtain ⟨v87, rfl, h⟩ := Qi_ok hq
                    replace h := h hI (mokI (hr _ rfl))
                    clear hq hr
                    refine y_if 136 143 Y dX6_solve_136 rfl rfl (fun c => ?_) (fun c => ?_)
                    · replace h := h.1 c
                      refine y_iconst 143 Y dX6_solve_143 rfl ?_
                      refine y_istore 144 Y [some mt, some (mi a1), some (mi a2), some (mi v64), some (mi v79), some (mi v81), some (mi v83), some (mi v85), some (mi 0), none] dX6_solve_144 rfl rfl ?_
                      obtain ⟨n1, h⟩ := h
                      exact Wk 146 _ [some mt, none, none, none, some (mi v79), some (mi v81), some (mi v83), some (mi v85), some (mi 0), none] _ _ ⟨rfl, ⟨rfl, ⟨rfl, ⟨rfl, ⟨rfl, ⟨rfl, trivial⟩⟩⟩⟩⟩⟩ (hIc n1 _ _ _ _ (Or.inr ((⟨rfl, _, _, _, _, _, rfl, rfl, h⟩))))
                    · replace h := h.2 c
                      refine y_iconst 139 Y dX6_solve_139 rfl ?_
                      refine y_goto 140 144 Y dX6_solve_140 rfl rfl ?_
                      refine y_istore 144 Y [some mt, some (mi a1), some (mi a2), some (mi v64), some (mi v79), some (mi v81), some (mi v83), some (mi v85), some (mi 1), none] dX6_solve_144 rfl rfl ?_
                      obtain ⟨n1, h⟩ := h
                      exact Wk 146 _ [some mt, none, none, none, some (mi v79), some (mi v81), some (mi v83), some (mi v85), some (mi 1), none] _ _ ⟨rfl, ⟨rfl, ⟨rfl, ⟨rfl, ⟨rfl, ⟨rfl, trivial⟩⟩⟩⟩⟩⟩ (hIc n1 _ _ _ _ (Or.inr ((⟨rfl, _, _, _, _, _, rfl, rfl, h⟩))))
                  · replace h := h.2 c
                    obtain ⟨n1, h⟩ := h
                    exact Wk 98 _ [some mt, none, none, none, none, none, none, none, none, none] _ _ ⟨rfl, trivial⟩ (hIc n1 _ _ _ _ (Or.inl (⟨rfl, rfl, rfl, h⟩)))
        · replace h := h.2 c
          refine y_iconst 33 Y dX6_solve_33 rfl ?_
          exact y_iret 34 Y dX6_solve_34 rfl h
      · replace h := h.2 c
        refine y_iconst 21 Y dX6_solve_21 rfl ?_
        refine y_goto 22 26 Y dX6_solve_22 rfl rfl ?_
        refine y_iconst 26 Y dX6_solve_26 rfl ?_
        refine y_call 27 Y (as := [mi 1, mi 1, mi 0]) [] dX6_solve_27 rfl rfl rfl rfl rfl h (fun r S88 hq hI hr => ?_)
        obtain ⟨v89, rfl, h⟩ := Qi_ok hq
        replace h := h hI (mokI (hr _ rfl))
        clear hq hr
        refine y_if 30 35 Y dX6_solve_30 rfl rfl (fun c => ?_) (fun c => ?_)
        · replace h := h.1 c
          refine y_iload_n 35 Y dX6_solve_35 rfl ?_
          refine y_calls 36 Y (as := [mi a1]) [] dX6_solve_36 rfl rfl rfl rfl rfl h (fun r S90 hq hI hr => ?_)
          obtain ⟨v91, rfl, h⟩ := Qi_ok hq
          replace h := h hI (mokI (hr _ rfl))
          clear hq hr
          refine y_istore_n 39 Y [some mt, some (mi a1), some (mi a2), some (mi v91), none, none, none, none, none, none] dX6_solve_39 rfl rfl ?_
          refine y_aload_n 40 Y dX6_solve_40 rfl ?_
          refine y_iconst 41 Y dX6_solve_41 rfl ?_
          refine y_putf 42 Y 68 dX6_solve_42 rfl rfl (fun q => absurd q (by decide)) ?_
          refine y_aload_n 45 Y dX6_solve_45 rfl ?_
          refine y_iload_n 46 Y dX6_solve_46 rfl ?_
          refine y_call 47 Y (as := [mi v91]) [] dX6_solve_47 rfl rfl rfl rfl rfl h (fun r S92 hq hI hr => ?_)
          obtain ⟨v93, rfl, h⟩ := Qi_ok hq
          replace h := h hI (mokI (hr _ rfl))
          clear hq hr
          refine y_bipush 50 Y dX6_solve_50 rfl ?_
          refine y_icmp 52 98 Y dX6_solve_52 rfl rfl (fun c => ?_) (fun c => ?_)
          · replace h := h.1 c
            obtain ⟨n1, h⟩ := h
            exact Wk 98 _ [some mt, none, none, none, none, none, none, none, none, none] _ _ ⟨rfl, trivial⟩ (hIc n1 _ _ _ _ (Or.inl (⟨rfl, rfl, rfl, h⟩)))
          · replace h := h.2 c
            refine y_aload_n 55 Y dX6_solve_55 rfl ?_
            refine y_iload_n 56 Y dX6_solve_56 rfl ?_
            refine y_iconst 57 Y dX6_solve_57 rfl ?_
            obtain ⟨o94, h⟩ := h
            refine y_iadd 58 Y dX6_solve_58 o94 ?_
            refine y_iload_n 59 Y dX6_solve_59 rfl ?_
            refine y_call 60 Y (as := [mi (v91 + 1), mi a2]) [] dX6_solve_60 rfl rfl rfl rfl rfl h (fun r S95 hq hI hr => ?_)
            obtain ⟨v96, rfl, h⟩ := Qi_ok hq
            replace h := h hI (mokI (hr _ rfl))
            clear hq hr
            refine y_if 63 98 Y dX6_solve_63 rfl rfl (fun c => ?_) (fun c => ?_)
            · replace h := h.1 c
              obtain ⟨n1, h⟩ := h
              exact Wk 98 _ [some mt, none, none, none, none, none, none, none, none, none] _ _ ⟨rfl, trivial⟩ (hIc n1 _ _ _ _ (Or.inl (⟨rfl, rfl, rfl, h⟩)))
            · replace h := h.2 c
              refine y_aload_n 66 Y dX6_solve_66 rfl ?_
              refine y_aload_n 67 Y dX6_solve_67 rfl ?_
              refine y_iload_n 68 Y dX6_solve_68 rfl ?_
              refine y_iconst 69 Y dX6_solve_69 rfl ?_
              refine y_call 70 Y (as := [mi v91, mi 1]) [mt] dX6_solve_70 rfl rfl rfl rfl rfl h (fun r S97 hq hI hr => ?_)
              obtain ⟨v98, rfl, h⟩ := Qi_ok hq
              replace h := h hI (mokI (hr _ rfl))
              clear hq hr
              refine y_iload_n 73 Y dX6_solve_73 rfl ?_
              refine y_call 74 Y (as := [mi v98, mi a2]) [] dX6_solve_74 rfl rfl rfl rfl rfl h (fun r S99 hq hI hr => ?_)
              obtain ⟨v100, rfl, h⟩ := Qi_ok hq
              replace h := h hI (mokI (hr _ rfl))
              clear hq hr
              refine y_if 77 98 Y dX6_solve_77 rfl rfl (fun c => ?_) (fun c => ?_)
              · replace h := h.1 c
                obtain ⟨n1, h⟩ := h
                exact Wk 98 _ [some mt, none, none, none, none, none, none, none, none, none] _ _ ⟨rfl, trivial⟩ (hIc n1 _ _ _ _ (Or.inl (⟨rfl, rfl, rfl, h⟩)))
              · replace h := h.2 c
                refine y_aload_n 80 Y dX6_solve_80 rfl ?_
                refine y_iconst 81 Y dX6_solve_81 rfl ?_
                refine y_call 82 Y (as := [mi 0]) [] dX6_solve_82 rfl rfl rfl rfl rfl h (fun r S101 hq hI hr => ?_)
                obtain ⟨v102, rfl, h⟩ := Qi_ok hq
                replace h := h hI (mokI (hr _ rfl))
                clear hq hr
                refine y_iconst 85 Y dX6_solve_85 rfl ?_
                refine y_icmp 86 98 Y dX6_solve_86 rfl rfl (fun c => ?_) (fun c => ?_)
                · replace h := h.1 c
                  obtain ⟨n1, h⟩ := h
                  exact Wk 98 _ [some mt, none, none, none, none, none, none, none, none, none] _ _ ⟨rfl, trivial⟩ (hIc n1 _ _ _ _ (Or.inl (⟨rfl, rfl, rfl, h⟩)))
                · replace h := h.2 c
                  refine y_aload_n 89 Y dX6_solve_89 rfl ?_
                  refine y_iconst 90 Y dX6_solve_90 rfl ?_
                  refine y_call 91 Y (as := [mi 1]) [] dX6_solve_91 rfl rfl rfl rfl rfl h (fun r S103 hq hI hr => ?_)
                  obtain ⟨v104, rfl, h⟩ := Qi_ok hq
                  replace h := h hI (mokI (hr _ rfl))
                  clear hq hr
                  refine y_iconst 94 Y dX6_solve_94 rfl ?_
                  refine y_icmp 95 100 Y dX6_solve_95 rfl rfl (fun c => ?_) (fun c => ?_)
                  · replace h := h.1 c
                    refine y_iconst 100 Y dX6_solve_100 rfl ?_
                    refine y_iconst 101 Y dX6_solve_101 rfl ?_
                    refine y_calls 102 Y (as := [mi 0, mi 1]) [] dX6_solve_102 rfl rfl rfl rfl rfl h (fun r S105 hq hI hr => ?_)
                    obtain ⟨v106, rfl, h⟩ := Qi_ok hq
                    replace h := h hI (mokI (hr _ rfl))
                    clear hq hr
                    refine y_istore 105 Y [some mt, some (mi a1), some (mi a2), some (mi v91), some (mi v106), none, none, none, none, none] dX6_solve_105 rfl rfl ?_
                    refine y_iconst 107 Y dX6_solve_107 rfl ?_
                    refine y_iconst 108 Y dX6_solve_108 rfl ?_
                    refine y_calls 109 Y (as := [mi 0, mi 0]) [] dX6_solve_109 rfl rfl rfl rfl rfl h (fun r S107 hq hI hr => ?_)
                    obtain ⟨v108, rfl, h⟩ := Qi_ok hq
                    replace h := h hI (mokI (hr _ rfl))
                    clear hq hr
                    refine y_istore 112 Y [some mt, some (mi a1), some (mi a2), some (mi v91), some (mi v106), some (mi v108), none, none, none, none] dX6_solve_112 rfl rfl ?_
                    refine y_iconst 114 Y dX6_solve_114 rfl ?_
                    refine y_iconst 115 Y dX6_solve_115 rfl ?_
                    refine y_calls 116 Y (as := [mi 1, mi 1]) [] dX6_solve_116 rfl rfl rfl rfl rfl h (fun r S109 hq hI hr => ?_)
                    obtain ⟨v110, rfl, h⟩ := Qi_ok hq
                    replace h := h hI (mokI (hr _ rfl))
                    clear hq hr
                    refine y_istore 119 Y [some mt, some (mi a1), some (mi a2), some (mi v91), some (mi v106), some (mi v108), some (mi v110), none, none, none] dX6_solve_119 rfl rfl ?_
                    refine y_iconst 121 Y dX6_solve_121 rfl ?_
                    refine y_iconst 122 Y dX6_solve_122 rfl ?_
                    refine y_calls 123 Y (as := [mi 1, mi 0]) [] dX6_solve_123 rfl rfl rfl rfl rfl h (fun r S111 hq hI hr => ?_)
                    obtain ⟨v112, rfl, h⟩ := Qi_ok hq
                    replace h := h hI (mokI (hr _ rfl))
                    clear hq hr
                    refine y_istore 126 Y [some mt, some (mi a1), some (mi a2), some (mi v91), some (mi v106), some (mi v108), some (mi v110), some (mi v112), none, none] dX6_solve_126 rfl rfl ?_
                    refine y_aload_n 128 Y dX6_solve_128 rfl ?_
                    refine y_iload 129 Y dX6_solve_129 rfl ?_
                    refine y_iload 131 Y dX6_solve_131 rfl ?_
                    refine y_call 133 Y (as := [mi v106, mi v110]) [] dX6_solve_133 rfl rfl rfl rfl rfl h (fun r S113 hq hI hr => ?_)
                    obtain ⟨v114, rfl, h⟩ := Qi_ok hq
                    replace h := h hI (mokI (hr _ rfl))
                    clear hq hr
                    refine y_if 136 143 Y dX6_solve_136 rfl rfl (fun c => ?_) (fun c => ?_)
                    · replace h := h.1 c
                      refine y_iconst 143 Y dX6_solve_143 rfl ?_
                      refine y_istore 144 Y [some mt, some (mi a1), some (mi a2), some (mi v91), some (mi v106), some (mi v108), some (mi v110), some (mi v112), some (mi 0), none] dX6_solve_144 rfl rfl ?_
                      obtain ⟨n1, h⟩ := h
                      exact Wk 146 _ [some mt, none, none, none, some (mi v106), some (mi v108), some (mi v110), some (mi v112), some (mi 0), none] _ _ ⟨rfl, ⟨rfl, ⟨rfl, ⟨rfl, ⟨rfl, ⟨rfl, trivial⟩⟩⟩⟩⟩⟩ (hIc n1 _ _ _ _ (Or.inr ((⟨rfl, _, _, _, _, _, rfl, rfl, h⟩))))
                    · replace h := h.2 c
                      refine y_iconst 139 Y dX6_solve_139 rfl ?_
                      refine y_goto 140 144 Y dX6_solve_140 rfl rfl ?_
                      refine y_istore 144 Y [some mt, some (mi a1), some (mi a2), some (mi v91), some (mi v106), some (mi v108), some (mi v110), some (mi v112), some (mi 1), none] dX6_solve_144 rfl rfl ?_
                      obtain ⟨n1, h⟩ := h
                      exact Wk 146 _ [some mt, none, none, none, some (mi v106), some (mi v108), some (mi v110), some (mi v112), some (mi 1), none] _ _ ⟨rfl, ⟨rfl, ⟨rfl, ⟨rfl, ⟨rfl, ⟨rfl, trivial⟩⟩⟩⟩⟩⟩ (hIc n1 _ _ _ _ (Or.inr ((⟨rfl, _, _, _, _, _, rfl, rfl, h⟩))))
                  · replace h := h.2 c
                    obtain ⟨n1, h⟩ := h
                    exact Wk 98 _ [some mt, none, none, none, none, none, none, none, none, none] _ _ ⟨rfl, trivial⟩ (hIc n1 _ _ _ _ (Or.inl (⟨rfl, rfl, rfl, h⟩)))
        · replace h := h.2 c
          refine y_iconst 33 Y dX6_solve_33 rfl ?_
          exact y_iret 34 Y dX6_solve_34 rfl h
  · intro n pc L st T hi hS hL P Y Wk hIc
    clear hE
    rcases hi with ⟨rfl, rfl, rfl, hi⟩ | ⟨rfl, l4, l5, l6, l7, l8, rfl, rfl, hi⟩
    · have h := h98 n  T hS hi
      clear hL hi h98 h146
      refine y_iconst 98 Y dX6_solve_98 rfl ?_
      exact y_iret 99 Y dX6_solve_99 rfl h
    · have h := h146 n l4 l5 l6 l7 l8 T hS (hL 4 _ rfl) (hL 5 _ rfl) (hL 6 _ rfl) (hL 7 _ rfl) (hL 8 _ rfl) hi
      clear hL hi h98 h146
      refine y_iload 146 Y dX6_solve_146 rfl ?_
      refine y_if 148 168 Y dX6_solve_148 rfl rfl (fun c => ?_) (fun c => ?_)
      · replace h := h.1 c
        refine y_aload_n 168 Y dX6_solve_168 rfl ?_
        refine y_sipush 169 Y dX6_solve_169 rfl ?_
        refine y_iconst 172 Y dX6_solve_172 rfl ?_
        refine y_call 173 Y (as := [mi 3600, mi 1]) [] dX6_solve_173 rfl rfl rfl rfl rfl h (fun r S1 hq hI _ => ?_)
        obtain ⟨rfl, h⟩ := Qv_ok hq
        replace h := h hI
        clear hq
        refine y_aload_n 176 Y dX6_solve_176 rfl ?_
        refine y_call 177 Y (as := []) [] dX6_solve_177 rfl rfl rfl rfl rfl h (fun r S2 hq hI _ => ?_)
        obtain ⟨rfl, h⟩ := Qv_ok hq
        replace h := h hI
        clear hq
        refine y_aload_n 180 Y dX6_solve_180 rfl ?_
        refine y_iload 181 Y dX6_solve_181 rfl ?_
        refine y_sipush 183 Y dX6_solve_183 rfl ?_
        refine y_iconst 186 Y dX6_solve_186 rfl ?_
        refine y_call 187 Y (as := [mi l7, mi 3600, mi 1]) [] dX6_solve_187 rfl rfl rfl rfl rfl h (fun r S3 hq hI _ => ?_)
        obtain ⟨rfl, h⟩ := Qv_ok hq
        replace h := h hI
        clear hq
        refine y_aload_n 190 Y dX6_solve_190 rfl ?_
        refine y_iload 191 Y dX6_solve_191 rfl ?_
        refine y_sipush 193 Y dX6_solve_193 rfl ?_
        refine y_iconst 196 Y dX6_solve_196 rfl ?_
        refine y_call 197 Y (as := [mi l5, mi 3600, mi (-1)]) [] dX6_solve_197 rfl rfl rfl rfl rfl h (fun r S4 hq hI _ => ?_)
        obtain ⟨rfl, h⟩ := Qv_ok hq
        replace h := h hI
        clear hq
        refine y_aload_n 200 Y dX6_solve_200 rfl ?_
        refine y_getf 201 Y 69 dX6_solve_201 rfl rfl (fun _ => ?_)
        refine y_istore 204 Y [some mt, none, none, none, some (mi l4), some (mi l5), some (mi l6), some (mi l7), some (mi l8), some (mi (S4 69 0))] dX6_solve_204 rfl rfl ?_
        refine y_aload_n 206 Y dX6_solve_206 rfl ?_
        refine y_call 207 Y (as := []) [] dX6_solve_207 rfl rfl rfl rfl rfl h (fun r S5 hq hI _ => ?_)
        obtain ⟨rfl, h⟩ := Qv_ok hq
        replace h := h hI
        clear hq
        refine y_aload_n 210 Y dX6_solve_210 rfl ?_
        refine y_call 211 Y (as := []) [] dX6_solve_211 rfl rfl rfl rfl rfl h (fun r S6 hq hI _ => ?_)
        obtain ⟨rfl, h⟩ := Qv_ok hq
        replace h := h hI
        clear hq
        refine y_aload_n 214 Y dX6_solve_214 rfl ?_
        refine y_iload 215 Y dX6_solve_215 rfl ?_
        refine y_sipush 217 Y dX6_solve_217 rfl ?_
        refine y_iconst 220 Y dX6_solve_220 rfl ?_
        refine y_call 221 Y (as := [mi l4, mi 3600, mi 1]) [] dX6_solve_221 rfl rfl rfl rfl rfl h (fun r S7 hq hI _ => ?_)
        obtain ⟨rfl, h⟩ := Qv_ok hq
        replace h := h hI
        clear hq
        refine y_aload_n 224 Y dX6_solve_224 rfl ?_
        refine y_iload 225 Y dX6_solve_225 rfl ?_
        refine y_sipush 227 Y dX6_solve_227 rfl ?_
        refine y_iconst 230 Y dX6_solve_230 rfl ?_
        refine y_call 231 Y (as := [mi l6, mi 3600, mi (-1)]) [] dX6_solve_231 rfl rfl rfl rfl rfl h (fun r S8 hq hI _ => ?_)
        obtain ⟨rfl, h⟩ := Qv_ok hq
        replace h := h hI
        clear hq
        refine y_aload_n 234 Y dX6_solve_234 rfl ?_
        refine y_call 235 Y (as := []) [] dX6_solve_235 rfl rfl rfl rfl rfl h (fun r S9 hq hI _ => ?_)
        obtain ⟨rfl, h⟩ := Qv_ok hq
        replace h := h hI
        clear hq
        refine y_aload_n 238 Y dX6_solve_238 rfl ?_
        refine y_iconst 239 Y dX6_solve_239 rfl ?_
        refine y_iconst 240 Y dX6_solve_240 rfl ?_
        refine y_bipush 241 Y dX6_solve_241 rfl ?_
        refine y_call 243 Y (as := [mi 0, mi 2, mi 9]) [] dX6_solve_243 rfl rfl rfl rfl rfl h (fun r S10 hq hI _ => ?_)
        obtain ⟨rfl, h⟩ := Qv_ok hq
        replace h := h hI
        clear hq
        refine y_aload_n 246 Y dX6_solve_246 rfl ?_
        refine y_iconst 247 Y dX6_solve_247 rfl ?_
        refine y_iconst 248 Y dX6_solve_248 rfl ?_
        refine y_bipush 249 Y dX6_solve_249 rfl ?_
        refine y_call 251 Y (as := [mi 1, mi 3, mi 8]) [] dX6_solve_251 rfl rfl rfl rfl rfl h (fun r S11 hq hI _ => ?_)
        obtain ⟨rfl, h⟩ := Qv_ok hq
        replace h := h hI
        clear hq
        refine y_aload_n 254 Y dX6_solve_254 rfl ?_
        refine y_bipush 255 Y dX6_solve_255 rfl ?_
        refine y_iload 257 Y dX6_solve_257 rfl ?_
        refine y_aload_n 259 Y dX6_solve_259 rfl ?_
        refine y_getf 260 Y 69 dX6_solve_260 rfl rfl (fun _ => ?_)
        obtain ⟨o12, h⟩ := h
        refine y_imul 263 Y dX6_solve_263 o12 ?_
        refine y_call 264 Y (as := [mi 26, mi ((S4 69 0) * (S11 69 0))]) [] dX6_solve_264 rfl rfl rfl rfl rfl h (fun r S13 hq hI hr => ?_)
        obtain ⟨v14, rfl, h⟩ := Qi_ok hq
        replace h := h hI (mokI (hr _ rfl))
        clear hq hr
        refine y_if 267 274 Y dX6_solve_267 rfl rfl (fun c => ?_) (fun c => ?_)
        · replace h := h.1 c
          refine y_iconst 274 Y dX6_solve_274 rfl ?_
          exact y_iret 275 Y dX6_solve_275 rfl h
        · replace h := h.2 c
          refine y_iconst 270 Y dX6_solve_270 rfl ?_
          refine y_goto 271 275 Y dX6_solve_271 rfl rfl ?_
          exact y_iret 275 Y dX6_solve_275 rfl h
      · replace h := h.2 c
        refine y_aload_n 151 Y dX6_solve_151 rfl ?_
        refine y_iload 152 Y dX6_solve_152 rfl ?_
        refine y_iload 154 Y dX6_solve_154 rfl ?_
        refine y_call 156 Y (as := [mi l5, mi l7]) [] dX6_solve_156 rfl rfl rfl rfl rfl h (fun r S15 hq hI hr => ?_)
        obtain ⟨v16, rfl, h⟩ := Qi_ok hq
        replace h := h hI (mokI (hr _ rfl))
        clear hq hr
        refine y_if 159 166 Y dX6_solve_159 rfl rfl (fun c => ?_) (fun c => ?_)
        · replace h := h.1 c
          refine y_iconst 166 Y dX6_solve_166 rfl ?_
          exact y_iret 167 Y dX6_solve_167 rfl h
        · replace h := h.2 c
          refine y_iconst 162 Y dX6_solve_162 rfl ?_
          refine y_goto 163 167 Y dX6_solve_163 rfl rfl ?_
          exact y_iret 167 Y dX6_solve_167 rfl h
set_option maxHeartbeats 4000000 in
theorem of_answers {g : mG} {S : mS} {a1 : Int} {Qp : Option mV → mS → Prop}
    (hE : mI S → (-2147483648 ≤ a1 ∧ a1 ≤ 2147483647) → CX_run g [mt, mi a1] S (Qi fun v2 S1 => mI S1 → (-2147483648 ≤ v2 ∧ v2 ≤ 2147483647) → ((v2 ≠ 0) → Qp (some (mi v2)) S1) ∧ (¬ (v2 ≠ 0) → CX_copyValue g [mt, mi 26, mi 60] S1 (Qv fun S3 => mI S3 → Qp (some (mi v2)) S3))))
    : CX_answers g [mt, mi a1] S Qp := by
  refine cm_y ⟨by decide, rfl⟩ (by simp [mcat]) (by simp) (fun _ _ _ _ _ => False) ?_ ?_
  · intro ha hS P Y Wk hIc
    have h := hE hS (mokI (ha (mi a1) (by simp)))
    clear hE ha
    refine y_aload_n 0 Y dX6_answers_0 rfl ?_
    refine y_iload_n 1 Y dX6_answers_1 rfl ?_
    refine y_call 2 Y (as := [mi a1]) [] dX6_answers_2 rfl rfl rfl rfl rfl h (fun r S1 hq hI hr => ?_)
    obtain ⟨v2, rfl, h⟩ := Qi_ok hq
    replace h := h hI (mokI (hr _ rfl))
    clear hq hr
    refine y_istore_n 5 Y [some mt, some (mi a1), some (mi v2)] dX6_answers_5 rfl rfl ?_
    refine y_iload_n 6 Y dX6_answers_6 rfl ?_
    refine y_if 7 18 Y dX6_answers_7 rfl rfl (fun c => ?_) (fun c => ?_)
    · replace h := h.1 c
      refine y_iload_n 18 Y dX6_answers_18 rfl ?_
      exact y_iret 19 Y dX6_answers_19 rfl h
    · replace h := h.2 c
      refine y_aload_n 10 Y dX6_answers_10 rfl ?_
      refine y_bipush 11 Y dX6_answers_11 rfl ?_
      refine y_bipush 13 Y dX6_answers_13 rfl ?_
      refine y_call 15 Y (as := [mi 26, mi 60]) [] dX6_answers_15 rfl rfl rfl rfl rfl h (fun r S3 hq hI _ => ?_)
      obtain ⟨rfl, h⟩ := Qv_ok hq
      replace h := h hI
      clear hq
      refine y_iload_n 18 Y dX6_answers_18 rfl ?_
      exact y_iret 19 Y dX6_answers_19 rfl h
  · intro n pc L st T hi
    exact hi.elim
set_option maxHeartbeats 4000000 in
theorem of_isSimpler {g : mG} {S : mS} {a1 : Int} {Qp : Option mV → mS → Prop} (I47 : Nat → Int → Int → Int → Int → Int → Int → mS → Prop)
    (hE : mI S → (-2147483648 ≤ a1 ∧ a1 ≤ 2147483647) → CX_run g [mt, mi a1] S (Qi fun v2 S1 => mI S1 → (-2147483648 ≤ v2 ∧ v2 ≤ 2147483647) → CX_copyValue g [mt, mi 3606, mi 60] S1 (Qv fun S3 => mI S3 → CX_takeWork g [mt, mi a1] S3 (Qv fun S4 => mI S4 → (∃ n1, I47 n1 (S 67 0) (S 65 0) (S 66 0) v2 1 1 S4)))))
    (h47 : ∀ (n : Nat) (l2 l3 l4 l5 l6 l7 : Int) (T : mS), mI T → (-2147483648 ≤ l2 ∧ l2 ≤ 2147483647) → (-2147483648 ≤ l3 ∧ l3 ≤ 2147483647) → (-2147483648 ≤ l4 ∧ l4 ≤ 2147483647) → (-2147483648 ≤ l5 ∧ l5 ≤ 2147483647) → (-2147483648 ≤ l6 ∧ l6 ≤ 2147483647) → (-2147483648 ≤ l7 ∧ l7 ≤ 2147483647) → I47 n l2 l3 l4 l5 l6 l7 T → ((l7 = 0) → CX_run g [mt, mi 13540] (mup (mup (mup T 67 0 l2) 65 0 l3) 66 0 l4) (Qi fun v2 S1 => mI S1 → (-2147483648 ≤ v2 ∧ v2 ≤ 2147483647) → ((l6 = 0) → Qp (some (mi 0)) S1) ∧ (¬ (l6 = 0) → ((l5 ≠ 0) → Qp (some (mi 1)) S1) ∧ (¬ (l5 ≠ 0) → ((v2 ≠ 0) → Qp (some (mi 1)) S1) ∧ (¬ (v2 ≠ 0) → CX_compareValues g [mt, mi 3606, mi 60] S1 (Qi fun v4 S3 => mI S3 → (-2147483648 ≤ v4 ∧ v4 ≤ 2147483647) → ((v4 ≠ 0) → Qp (some (mi 0)) S3) ∧ (¬ (v4 ≠ 0) → Qp (some (mi 1)) S3))))))) ∧ (¬ (l7 = 0) → CX_stepWork g [mt] (mup T 67 0 0) (Qi fun v6 S5 => mI S5 → (-2147483648 ≤ v6 ∧ v6 ≤ 2147483647) → ((l6 = 0) → (∃ n1, n1 < n ∧ I47 n1 l2 l3 l4 l5 0 v6 S5)) ∧ (¬ (l6 = 0) → ((v6 = 0) → (∃ n1, n1 < n ∧ I47 n1 l2 l3 l4 l5 1 v6 S5)) ∧ (¬ (v6 = 0) → (((T 64 0) ≤ (S5 64 0)) → (∃ n1, n1 < n ∧ I47 n1 l2 l3 l4 l5 0 v6 S5)) ∧ (¬ ((T 64 0) ≤ (S5 64 0)) → (∃ n1, n1 < n ∧ I47 n1 l2 l3 l4 l5 1 v6 S5)))))))
    : CX_isSimpler g [mt, mi a1] S Qp := by
  refine cm_y ⟨by decide, rfl⟩ (by simp [mcat]) (by simp) (fun n pc L st S => (pc = 47 ∧ ∃ (l2 : Int) (l3 : Int) (l4 : Int) (l5 : Int) (l6 : Int) (l7 : Int), L = [some mt, none, some (mi l2), some (mi l3), some (mi l4), some (mi l5), some (mi l6), some (mi l7), none] ∧ st = [] ∧ I47 n l2 l3 l4 l5 l6 l7 S)) ?_ ?_
  · intro ha hS P Y Wk hIc
    have h := hE hS (mokI (ha (mi a1) (by simp)))
    clear hE ha h47
    refine y_aload_n 0 Y dX6_isSimpler_0 rfl ?_
    refine y_getf 1 Y 67 dX6_isSimpler_1 rfl rfl (fun _ => ?_)
    refine y_istore_n 4 Y [some mt, some (mi a1), some (mi (S 67 0)), none, none, none, none, none, none] dX6_isSimpler_4 rfl rfl ?_
    refine y_aload_n 5 Y dX6_isSimpler_5 rfl ?_
    refine y_geta 6 Y 65 dX6_isSimpler_6 rfl rfl ?_
    refine y_iconst 9 Y dX6_isSimpler_9 rfl ?_
    refine y_iald 10 Y dX6_isSimpler_10 rfl rfl (by decide) (by decide) (fun _ => ?_)
    refine y_istore_n 11 Y [some mt, some (mi a1), some (mi (S 67 0)), some (mi (S 65 0)), none, none, none, none, none] dX6_isSimpler_11 rfl rfl ?_
    refine y_aload_n 12 Y dX6_isSimpler_12 rfl ?_
    refine y_geta 13 Y 66 dX6_isSimpler_13 rfl rfl ?_
    refine y_iconst 16 Y dX6_isSimpler_16 rfl ?_
    refine y_iald 17 Y dX6_isSimpler_17 rfl rfl (by decide) (by decide) (fun _ => ?_)
    refine y_istore 18 Y [some mt, some (mi a1), some (mi (S 67 0)), some (mi (S 65 0)), some (mi (S 66 0)), none, none, none, none] dX6_isSimpler_18 rfl rfl ?_
    refine y_aload_n 20 Y dX6_isSimpler_20 rfl ?_
    refine y_iload_n 21 Y dX6_isSimpler_21 rfl ?_
    refine y_call 22 Y (as := [mi a1]) [] dX6_isSimpler_22 rfl rfl rfl rfl rfl h (fun r S1 hq hI hr => ?_)
    obtain ⟨v2, rfl, h⟩ := Qi_ok hq
    replace h := h hI (mokI (hr _ rfl))
    clear hq hr
    refine y_istore 25 Y [some mt, some (mi a1), some (mi (S 67 0)), some (mi (S 65 0)), some (mi (S 66 0)), some (mi v2), none, none, none] dX6_isSimpler_25 rfl rfl ?_
    refine y_aload_n 27 Y dX6_isSimpler_27 rfl ?_
    refine y_sipush 28 Y dX6_isSimpler_28 rfl ?_
    refine y_bipush 31 Y dX6_isSimpler_31 rfl ?_
    refine y_call 33 Y (as := [mi 3606, mi 60]) [] dX6_isSimpler_33 rfl rfl rfl rfl rfl h (fun r S3 hq hI _ => ?_)
    obtain ⟨rfl, h⟩ := Qv_ok hq
    replace h := h hI
    clear hq
    refine y_aload_n 36 Y dX6_isSimpler_36 rfl ?_
    refine y_iload_n 37 Y dX6_isSimpler_37 rfl ?_
    refine y_call 38 Y (as := [mi a1]) [] dX6_isSimpler_38 rfl rfl rfl rfl rfl h (fun r S4 hq hI _ => ?_)
    obtain ⟨rfl, h⟩ := Qv_ok hq
    replace h := h hI
    clear hq
    refine y_iconst 41 Y dX6_isSimpler_41 rfl ?_
    refine y_istore 42 Y [some mt, some (mi a1), some (mi (S 67 0)), some (mi (S 65 0)), some (mi (S 66 0)), some (mi v2), some (mi 1), none, none] dX6_isSimpler_42 rfl rfl ?_
    refine y_iconst 44 Y dX6_isSimpler_44 rfl ?_
    refine y_istore 45 Y [some mt, some (mi a1), some (mi (S 67 0)), some (mi (S 65 0)), some (mi (S 66 0)), some (mi v2), some (mi 1), some (mi 1), none] dX6_isSimpler_45 rfl rfl ?_
    obtain ⟨n1, h⟩ := h
    exact Wk 47 _ [some mt, none, some (mi (S 67 0)), some (mi (S 65 0)), some (mi (S 66 0)), some (mi v2), some (mi 1), some (mi 1), none] _ _ ⟨rfl, ⟨rfl, ⟨rfl, ⟨rfl, ⟨rfl, ⟨rfl, ⟨rfl, trivial⟩⟩⟩⟩⟩⟩⟩ (hIc n1 _ _ _ _ ((⟨rfl, _, _, _, _, _, _, rfl, rfl, h⟩)))
  · intro n pc L st T hi hS hL P Y Wk hIc
    clear hE
    rcases hi with ⟨rfl, l2, l3, l4, l5, l6, l7, rfl, rfl, hi⟩
    · have h := h47 n l2 l3 l4 l5 l6 l7 T hS (hL 2 _ rfl) (hL 3 _ rfl) (hL 4 _ rfl) (hL 5 _ rfl) (hL 6 _ rfl) (hL 7 _ rfl) hi
      clear hL hi h47
      refine y_iload 47 Y dX6_isSimpler_47 rfl ?_
      refine y_if 49 98 Y dX6_isSimpler_49 rfl rfl (fun c => ?_) (fun c => ?_)
      · replace h := h.1 c
        refine y_aload_n 98 Y dX6_isSimpler_98 rfl ?_
        refine y_iload_n 99 Y dX6_isSimpler_99 rfl ?_
        refine y_putf 100 Y 67 dX6_isSimpler_100 rfl rfl (fun q => absurd q (by decide)) ?_
        refine y_aload_n 103 Y dX6_isSimpler_103 rfl ?_
        refine y_geta 104 Y 65 dX6_isSimpler_104 rfl rfl ?_
        refine y_iconst 107 Y dX6_isSimpler_107 rfl ?_
        refine y_iload_n 108 Y dX6_isSimpler_108 rfl ?_
        refine y_iast 109 Y dX6_isSimpler_109 rfl rfl (by decide) (by decide) ?_
        refine y_aload_n 110 Y dX6_isSimpler_110 rfl ?_
        refine y_geta 111 Y 66 dX6_isSimpler_111 rfl rfl ?_
        refine y_iconst 114 Y dX6_isSimpler_114 rfl ?_
        refine y_iload 115 Y dX6_isSimpler_115 rfl ?_
        refine y_iast 117 Y dX6_isSimpler_117 rfl rfl (by decide) (by decide) ?_
        refine y_aload_n 118 Y dX6_isSimpler_118 rfl ?_
        refine y_sipush 119 Y dX6_isSimpler_119 rfl ?_
        refine y_call 122 Y (as := [mi 13540]) [] dX6_isSimpler_122 rfl rfl rfl rfl rfl h (fun r S1 hq hI hr => ?_)
        obtain ⟨v2, rfl, h⟩ := Qi_ok hq
        replace h := h hI (mokI (hr _ rfl))
        clear hq hr
        refine y_istore 125 Y [some mt, none, some (mi l2), some (mi l3), some (mi l4), some (mi l5), some (mi l6), some (mi l7), some (mi v2)] dX6_isSimpler_125 rfl rfl ?_
        refine y_iload 127 Y dX6_isSimpler_127 rfl ?_
        refine y_if 129 158 Y dX6_isSimpler_129 rfl rfl (fun c => ?_) (fun c => ?_)
        · replace h := h.1 c
          refine y_iconst 158 Y dX6_isSimpler_158 rfl ?_
          exact y_zret 159 Y dX6_isSimpler_159 rfl (by decide) h
        · replace h := h.2 c
          refine y_iload 132 Y dX6_isSimpler_132 rfl ?_
          refine y_if 134 154 Y dX6_isSimpler_134 rfl rfl (fun c => ?_) (fun c => ?_)
          · replace h := h.1 c
            refine y_iconst 154 Y dX6_isSimpler_154 rfl ?_
            refine y_goto 155 159 Y dX6_isSimpler_155 rfl rfl ?_
            exact y_zret 159 Y dX6_isSimpler_159 rfl (by decide) h
          · replace h := h.2 c
            refine y_iload 137 Y dX6_isSimpler_137 rfl ?_
            refine y_if 139 154 Y dX6_isSimpler_139 rfl rfl (fun c => ?_) (fun c => ?_)
            · replace h := h.1 c
              refine y_iconst 154 Y dX6_isSimpler_154 rfl ?_
              refine y_goto 155 159 Y dX6_isSimpler_155 rfl rfl ?_
              exact y_zret 159 Y dX6_isSimpler_159 rfl (by decide) h
            · replace h := h.2 c
              refine y_aload_n 142 Y dX6_isSimpler_142 rfl ?_
              refine y_sipush 143 Y dX6_isSimpler_143 rfl ?_
              refine y_bipush 146 Y dX6_isSimpler_146 rfl ?_
              refine y_call 148 Y (as := [mi 3606, mi 60]) [] dX6_isSimpler_148 rfl rfl rfl rfl rfl h (fun r S3 hq hI hr => ?_)
              obtain ⟨v4, rfl, h⟩ := Qi_ok hq
              replace h := h hI (mokI (hr _ rfl))
              clear hq hr
              refine y_if 151 158 Y dX6_isSimpler_151 rfl rfl (fun c => ?_) (fun c => ?_)
              · replace h := h.1 c
                refine y_iconst 158 Y dX6_isSimpler_158 rfl ?_
                exact y_zret 159 Y dX6_isSimpler_159 rfl (by decide) h
              · replace h := h.2 c
                refine y_iconst 154 Y dX6_isSimpler_154 rfl ?_
                refine y_goto 155 159 Y dX6_isSimpler_155 rfl rfl ?_
                exact y_zret 159 Y dX6_isSimpler_159 rfl (by decide) h
      · replace h := h.2 c
        refine y_aload_n 52 Y dX6_isSimpler_52 rfl ?_
        refine y_getf 53 Y 64 dX6_isSimpler_53 rfl rfl (fun _ => ?_)
        refine y_istore 56 Y [some mt, none, some (mi l2), some (mi l3), some (mi l4), some (mi l5), some (mi l6), some (mi l7), some (mi (T 64 0))] dX6_isSimpler_56 rfl rfl ?_
        refine y_aload_n 58 Y dX6_isSimpler_58 rfl ?_
        refine y_iconst 59 Y dX6_isSimpler_59 rfl ?_
        refine y_putf 60 Y 67 dX6_isSimpler_60 rfl rfl (fun q => absurd q (by decide)) ?_
        refine y_aload_n 63 Y dX6_isSimpler_63 rfl ?_
        refine y_call 64 Y (as := []) [] dX6_isSimpler_64 rfl rfl rfl rfl rfl h (fun r S5 hq hI hr => ?_)
        obtain ⟨v6, rfl, h⟩ := Qi_ok hq
        replace h := h hI (mokI (hr _ rfl))
        clear hq hr
        refine y_istore 67 Y [some mt, none, some (mi l2), some (mi l3), some (mi l4), some (mi l5), some (mi l6), some (mi v6), some (mi (T 64 0))] dX6_isSimpler_67 rfl rfl ?_
        refine y_iload 69 Y dX6_isSimpler_69 rfl ?_
        refine y_if 71 92 Y dX6_isSimpler_71 rfl rfl (fun c => ?_) (fun c => ?_)
        · replace h := h.1 c
          refine y_iconst 92 Y dX6_isSimpler_92 rfl ?_
          refine y_istore 93 Y [some mt, none, some (mi l2), some (mi l3), some (mi l4), some (mi l5), some (mi 0), some (mi v6), some (mi (T 64 0))] dX6_isSimpler_93 rfl rfl ?_
          refine y_goto 95 47 Y dX6_isSimpler_95 rfl rfl ?_
          obtain ⟨n1, hn, h⟩ := h
          exact Wk 47 _ [some mt, none, some (mi l2), some (mi l3), some (mi l4), some (mi l5), some (mi 0), some (mi v6), none] _ _ ⟨rfl, ⟨rfl, ⟨rfl, ⟨rfl, ⟨rfl, ⟨rfl, ⟨rfl, trivial⟩⟩⟩⟩⟩⟩⟩ (hIc n1 _ _ _ _ hn ((⟨rfl, _, _, _, _, _, _, rfl, rfl, h⟩)))
        · replace h := h.2 c
          refine y_iload 74 Y dX6_isSimpler_74 rfl ?_
          refine y_if 76 88 Y dX6_isSimpler_76 rfl rfl (fun c => ?_) (fun c => ?_)
          · replace h := h.1 c
            refine y_iconst 88 Y dX6_isSimpler_88 rfl ?_
            refine y_goto 89 93 Y dX6_isSimpler_89 rfl rfl ?_
            refine y_istore 93 Y [some mt, none, some (mi l2), some (mi l3), some (mi l4), some (mi l5), some (mi 1), some (mi v6), some (mi (T 64 0))] dX6_isSimpler_93 rfl rfl ?_
            refine y_goto 95 47 Y dX6_isSimpler_95 rfl rfl ?_
            obtain ⟨n1, hn, h⟩ := h
            exact Wk 47 _ [some mt, none, some (mi l2), some (mi l3), some (mi l4), some (mi l5), some (mi 1), some (mi v6), none] _ _ ⟨rfl, ⟨rfl, ⟨rfl, ⟨rfl, ⟨rfl, ⟨rfl, ⟨rfl, trivial⟩⟩⟩⟩⟩⟩⟩ (hIc n1 _ _ _ _ hn ((⟨rfl, _, _, _, _, _, _, rfl, rfl, h⟩)))
          · replace h := h.2 c
            refine y_aload_n 79 Y dX6_isSimpler_79 rfl ?_
            refine y_getf 80 Y 64 dX6_isSimpler_80 rfl rfl (fun _ => ?_)
            refine y_iload 83 Y dX6_isSimpler_83 rfl ?_
            refine y_icmp 85 92 Y dX6_isSimpler_85 rfl rfl (fun c => ?_) (fun c => ?_)
            · replace h := h.1 c
              refine y_iconst 92 Y dX6_isSimpler_92 rfl ?_
              refine y_istore 93 Y [some mt, none, some (mi l2), some (mi l3), some (mi l4), some (mi l5), some (mi 0), some (mi v6), some (mi (T 64 0))] dX6_isSimpler_93 rfl rfl ?_
              refine y_goto 95 47 Y dX6_isSimpler_95 rfl rfl ?_
              obtain ⟨n1, hn, h⟩ := h
              exact Wk 47 _ [some mt, none, some (mi l2), some (mi l3), some (mi l4), some (mi l5), some (mi 0), some (mi v6), none] _ _ ⟨rfl, ⟨rfl, ⟨rfl, ⟨rfl, ⟨rfl, ⟨rfl, ⟨rfl, trivial⟩⟩⟩⟩⟩⟩⟩ (hIc n1 _ _ _ _ hn ((⟨rfl, _, _, _, _, _, _, rfl, rfl, h⟩)))
            · replace h := h.2 c
              refine y_iconst 88 Y dX6_isSimpler_88 rfl ?_
              refine y_goto 89 93 Y dX6_isSimpler_89 rfl rfl ?_
              refine y_istore 93 Y [some mt, none, some (mi l2), some (mi l3), some (mi l4), some (mi l5), some (mi 1), some (mi v6), some (mi (T 64 0))] dX6_isSimpler_93 rfl rfl ?_
              refine y_goto 95 47 Y dX6_isSimpler_95 rfl rfl ?_
              obtain ⟨n1, hn, h⟩ := h
              exact Wk 47 _ [some mt, none, some (mi l2), some (mi l3), some (mi l4), some (mi l5), some (mi 1), some (mi v6), none] _ _ ⟨rfl, ⟨rfl, ⟨rfl, ⟨rfl, ⟨rfl, ⟨rfl, ⟨rfl, trivial⟩⟩⟩⟩⟩⟩⟩ (hIc n1 _ _ _ _ hn ((⟨rfl, _, _, _, _, _, _, rfl, rfl, h⟩)))
set_option maxHeartbeats 4000000 in
theorem of_let {g : mG} {S : mS} {a1 a2 : Int} {Qp : Option mV → mS → Prop}
    (hE : mI S → (-2147483648 ≤ a1 ∧ a1 ≤ 2147483647) → (-2147483648 ≤ a2 ∧ a2 ≤ 2147483647) → CX_isName g [mi a1] S (Qi fun v2 S1 => mI S1 → (-2147483648 ≤ v2 ∧ v2 ≤ 2147483647) → ((v2 ≠ 0) → CX_isTree g [mt, mi a2] S1 (Qi fun v4 S3 => mI S3 → (-2147483648 ≤ v4 ∧ v4 ≤ 2147483647) → ((v4 ≠ 0) → CX_refused g [mt, mi 0, mi 0, mi 0] S3 (Qi fun v6 S5 => mI S5 → (-2147483648 ≤ v6 ∧ v6 ≤ 2147483647) → ((v6 = 0) → CX_shelf g [mi a2] S5 (Qi fun v8 S7 => mI S7 → (-2147483648 ≤ v8 ∧ v8 ≤ 2147483647) → CX_run g [mt, mi v8] S7 (Qi fun v10 S9 => mI S9 → (-2147483648 ≤ v10 ∧ v10 ≤ 2147483647) → ((v10 ≠ 0) → Qp (some (mi v10)) S9) ∧ (¬ (v10 ≠ 0) → (-2147483648 ≤ ((a1 - 97) : Int) ∧ (a1 - 97) ≤ 2147483647) ∧ CX_noteValue g [mt, mi (a1 - 97)] S9 (Qv fun S12 => mI S12 → (0 ≤ (a1 - 97)) ∧ ((a1 - 97) < 26) ∧ CX_copyValue g [mt, mi (a1 - 97), mi 60] (mup S12 47 (a1 - 97) 1) (Qv fun S15 => mI S15 → Qp (some (mi v10)) S15)))))) ∧ (¬ (v6 = 0) → Qp (some (mi 0)) S5))) ∧ (¬ (v4 ≠ 0) → CX_refused g [mt, mi 0, mi 1, mi 0] S3 (Qi fun v17 S16 => mI S16 → (-2147483648 ≤ v17 ∧ v17 ≤ 2147483647) → ((v17 = 0) → CX_shelf g [mi a2] S16 (Qi fun v19 S18 => mI S18 → (-2147483648 ≤ v19 ∧ v19 ≤ 2147483647) → CX_run g [mt, mi v19] S18 (Qi fun v21 S20 => mI S20 → (-2147483648 ≤ v21 ∧ v21 ≤ 2147483647) → ((v21 ≠ 0) → Qp (some (mi v21)) S20) ∧ (¬ (v21 ≠ 0) → (-2147483648 ≤ ((a1 - 97) : Int) ∧ (a1 - 97) ≤ 2147483647) ∧ CX_noteValue g [mt, mi (a1 - 97)] S20 (Qv fun S23 => mI S23 → (0 ≤ (a1 - 97)) ∧ ((a1 - 97) < 26) ∧ CX_copyValue g [mt, mi (a1 - 97), mi 60] (mup S23 47 (a1 - 97) 1) (Qv fun S26 => mI S26 → Qp (some (mi v21)) S26)))))) ∧ (¬ (v17 = 0) → Qp (some (mi 0)) S16))))) ∧ (¬ (v2 ≠ 0) → CX_isTree g [mt, mi a2] S1 (Qi fun v28 S27 => mI S27 → (-2147483648 ≤ v28 ∧ v28 ≤ 2147483647) → ((v28 ≠ 0) → CX_refused g [mt, mi 1, mi 0, mi 0] S27 (Qi fun v30 S29 => mI S29 → (-2147483648 ≤ v30 ∧ v30 ≤ 2147483647) → ((v30 = 0) → CX_shelf g [mi a2] S29 (Qi fun v32 S31 => mI S31 → (-2147483648 ≤ v32 ∧ v32 ≤ 2147483647) → CX_run g [mt, mi v32] S31 (Qi fun v34 S33 => mI S33 → (-2147483648 ≤ v34 ∧ v34 ≤ 2147483647) → ((v34 ≠ 0) → Qp (some (mi v34)) S33) ∧ (¬ (v34 ≠ 0) → (-2147483648 ≤ ((a1 - 97) : Int) ∧ (a1 - 97) ≤ 2147483647) ∧ CX_noteValue g [mt, mi (a1 - 97)] S33 (Qv fun S36 => mI S36 → (0 ≤ (a1 - 97)) ∧ ((a1 - 97) < 26) ∧ CX_copyValue g [mt, mi (a1 - 97), mi 60] (mup S36 47 (a1 - 97) 1) (Qv fun S39 => mI S39 → Qp (some (mi v34)) S39)))))) ∧ (¬ (v30 = 0) → Qp (some (mi 0)) S29))) ∧ (¬ (v28 ≠ 0) → CX_refused g [mt, mi 1, mi 1, mi 0] S27 (Qi fun v41 S40 => mI S40 → (-2147483648 ≤ v41 ∧ v41 ≤ 2147483647) → ((v41 = 0) → CX_shelf g [mi a2] S40 (Qi fun v43 S42 => mI S42 → (-2147483648 ≤ v43 ∧ v43 ≤ 2147483647) → CX_run g [mt, mi v43] S42 (Qi fun v45 S44 => mI S44 → (-2147483648 ≤ v45 ∧ v45 ≤ 2147483647) → ((v45 ≠ 0) → Qp (some (mi v45)) S44) ∧ (¬ (v45 ≠ 0) → (-2147483648 ≤ ((a1 - 97) : Int) ∧ (a1 - 97) ≤ 2147483647) ∧ CX_noteValue g [mt, mi (a1 - 97)] S44 (Qv fun S47 => mI S47 → (0 ≤ (a1 - 97)) ∧ ((a1 - 97) < 26) ∧ CX_copyValue g [mt, mi (a1 - 97), mi 60] (mup S47 47 (a1 - 97) 1) (Qv fun S50 => mI S50 → Qp (some (mi v45)) S50)))))) ∧ (¬ (v41 = 0) → Qp (some (mi 0)) S40)))))))
    : CX_let g [mt, mi a1, mi a2] S Qp := by
  refine cm_y ⟨by decide, rfl⟩ (by simp [mcat]) (by simp) (fun _ _ _ _ _ => False) ?_ ?_
  · intro ha hS P Y Wk hIc
    have h := hE hS (mokI (ha (mi a1) (by simp))) (mokI (ha (mi a2) (by simp)))
    clear hE ha
    refine y_aload_n 0 Y dX6_let_0 rfl ?_
    refine y_iload_n 1 Y dX6_let_1 rfl ?_
    refine y_calls 2 Y (as := [mi a1]) [mt] dX6_let_2 rfl rfl rfl rfl rfl h (fun r S1 hq hI hr => ?_)
    obtain ⟨v2, rfl, h⟩ := Qi_ok hq
    replace h := h hI (mokI (hr _ rfl))
    clear hq hr
    refine y_if 5 12 Y dX6_let_5 rfl rfl (fun c => ?_) (fun c => ?_)
    · replace h := h.1 c
      refine y_iconst 12 Y dX6_let_12 rfl ?_
      refine y_aload_n 13 Y dX6_let_13 rfl ?_
      refine y_iload_n 14 Y dX6_let_14 rfl ?_
      refine y_call 15 Y (as := [mi a2]) [mi 0, mt] dX6_let_15 rfl rfl rfl rfl rfl h (fun r S3 hq hI hr => ?_)
      obtain ⟨v4, rfl, h⟩ := Qi_ok hq
      replace h := h hI (mokI (hr _ rfl))
      clear hq hr
      refine y_if 18 25 Y dX6_let_18 rfl rfl (fun c => ?_) (fun c => ?_)
      · replace h := h.1 c
        refine y_iconst 25 Y dX6_let_25 rfl ?_
        refine y_iconst 26 Y dX6_let_26 rfl ?_
        refine y_call 27 Y (as := [mi 0, mi 0, mi 0]) [] dX6_let_27 rfl rfl rfl rfl rfl h (fun r S5 hq hI hr => ?_)
        obtain ⟨v6, rfl, h⟩ := Qi_ok hq
        replace h := h hI (mokI (hr _ rfl))
        clear hq hr
        refine y_if 30 35 Y dX6_let_30 rfl rfl (fun c => ?_) (fun c => ?_)
        · replace h := h.1 c
          refine y_aload_n 35 Y dX6_let_35 rfl ?_
          refine y_iload_n 36 Y dX6_let_36 rfl ?_
          refine y_calls 37 Y (as := [mi a2]) [mt] dX6_let_37 rfl rfl rfl rfl rfl h (fun r S7 hq hI hr => ?_)
          obtain ⟨v8, rfl, h⟩ := Qi_ok hq
          replace h := h hI (mokI (hr _ rfl))
          clear hq hr
          refine y_call 40 Y (as := [mi v8]) [] dX6_let_40 rfl rfl rfl rfl rfl h (fun r S9 hq hI hr => ?_)
          obtain ⟨v10, rfl, h⟩ := Qi_ok hq
          replace h := h hI (mokI (hr _ rfl))
          clear hq hr
          refine y_istore_n 43 Y [some mt, some (mi a1), some (mi a2), some (mi v10)] dX6_let_43 rfl rfl ?_
          refine y_iload_n 44 Y dX6_let_44 rfl ?_
          refine y_if 45 76 Y dX6_let_45 rfl rfl (fun c => ?_) (fun c => ?_)
          · replace h := h.1 c
            refine y_iload_n 76 Y dX6_let_76 rfl ?_
            exact y_iret 77 Y dX6_let_77 rfl h
          · replace h := h.2 c
            refine y_aload_n 48 Y dX6_let_48 rfl ?_
            refine y_iload_n 49 Y dX6_let_49 rfl ?_
            refine y_bipush 50 Y dX6_let_50 rfl ?_
            obtain ⟨o11, h⟩ := h
            refine y_isub 52 Y dX6_let_52 o11 ?_
            refine y_call 53 Y (as := [mi (a1 - 97)]) [] dX6_let_53 rfl rfl rfl rfl rfl h (fun r S12 hq hI _ => ?_)
            obtain ⟨rfl, h⟩ := Qv_ok hq
            replace h := h hI
            clear hq
            refine y_aload_n 56 Y dX6_let_56 rfl ?_
            refine y_geta 57 Y 47 dX6_let_57 rfl rfl ?_
            refine y_iload_n 60 Y dX6_let_60 rfl ?_
            refine y_bipush 61 Y dX6_let_61 rfl ?_
            refine y_isub 63 Y dX6_let_63 o11 ?_
            refine y_iconst 64 Y dX6_let_64 rfl ?_
            obtain ⟨o13, h⟩ := h
            obtain ⟨o14, h⟩ := h
            refine y_bast 65 Y dX6_let_65 rfl rfl o13 o14 (by decide) ?_
            refine y_aload_n 66 Y dX6_let_66 rfl ?_
            refine y_iload_n 67 Y dX6_let_67 rfl ?_
            refine y_bipush 68 Y dX6_let_68 rfl ?_
            refine y_isub 70 Y dX6_let_70 o11 ?_
            refine y_bipush 71 Y dX6_let_71 rfl ?_
            refine y_call 73 Y (as := [mi (a1 - 97), mi 60]) [] dX6_let_73 rfl rfl rfl rfl rfl h (fun r S15 hq hI _ => ?_)
            obtain ⟨rfl, h⟩ := Qv_ok hq
            replace h := h hI
            clear hq
            refine y_iload_n 76 Y dX6_let_76 rfl ?_
            exact y_iret 77 Y dX6_let_77 rfl h
        · replace h := h.2 c
          refine y_iconst 33 Y dX6_let_33 rfl ?_
          exact y_iret 34 Y dX6_let_34 rfl h
      · replace h := h.2 c
        refine y_iconst 21 Y dX6_let_21 rfl ?_
        refine y_goto 22 26 Y dX6_let_22 rfl rfl ?_
        refine y_iconst 26 Y dX6_let_26 rfl ?_
        refine y_call 27 Y (as := [mi 0, mi 1, mi 0]) [] dX6_let_27 rfl rfl rfl rfl rfl h (fun r S16 hq hI hr => ?_)
        obtain ⟨v17, rfl, h⟩ := Qi_ok hq
        replace h := h hI (mokI (hr _ rfl))
        clear hq hr
        refine y_if 30 35 Y dX6_let_30 rfl rfl (fun c => ?_) (fun c => ?_)
        · replace h := h.1 c
          refine y_aload_n 35 Y dX6_let_35 rfl ?_
          refine y_iload_n 36 Y dX6_let_36 rfl ?_
          refine y_calls 37 Y (as := [mi a2]) [mt] dX6_let_37 rfl rfl rfl rfl rfl h (fun r S18 hq hI hr => ?_)
          obtain ⟨v19, rfl, h⟩ := Qi_ok hq
          replace h := h hI (mokI (hr _ rfl))
          clear hq hr
          refine y_call 40 Y (as := [mi v19]) [] dX6_let_40 rfl rfl rfl rfl rfl h (fun r S20 hq hI hr => ?_)
          obtain ⟨v21, rfl, h⟩ := Qi_ok hq
          replace h := h hI (mokI (hr _ rfl))
          clear hq hr
          refine y_istore_n 43 Y [some mt, some (mi a1), some (mi a2), some (mi v21)] dX6_let_43 rfl rfl ?_
          refine y_iload_n 44 Y dX6_let_44 rfl ?_
          refine y_if 45 76 Y dX6_let_45 rfl rfl (fun c => ?_) (fun c => ?_)
          · replace h := h.1 c
            refine y_iload_n 76 Y dX6_let_76 rfl ?_
            exact y_iret 77 Y dX6_let_77 rfl h
          · replace h := h.2 c
            refine y_aload_n 48 Y dX6_let_48 rfl ?_
            refine y_iload_n 49 Y dX6_let_49 rfl ?_
            refine y_bipush 50 Y dX6_let_50 rfl ?_
            obtain ⟨o22, h⟩ := h
            refine y_isub 52 Y dX6_let_52 o22 ?_
            refine y_call 53 Y (as := [mi (a1 - 97)]) [] dX6_let_53 rfl rfl rfl rfl rfl h (fun r S23 hq hI _ => ?_)
            obtain ⟨rfl, h⟩ := Qv_ok hq
            replace h := h hI
            clear hq
            refine y_aload_n 56 Y dX6_let_56 rfl ?_
            refine y_geta 57 Y 47 dX6_let_57 rfl rfl ?_
            refine y_iload_n 60 Y dX6_let_60 rfl ?_
            refine y_bipush 61 Y dX6_let_61 rfl ?_
            refine y_isub 63 Y dX6_let_63 o22 ?_
            refine y_iconst 64 Y dX6_let_64 rfl ?_
            obtain ⟨o24, h⟩ := h
            obtain ⟨o25, h⟩ := h
            refine y_bast 65 Y dX6_let_65 rfl rfl o24 o25 (by decide) ?_
            refine y_aload_n 66 Y dX6_let_66 rfl ?_
            refine y_iload_n 67 Y dX6_let_67 rfl ?_
            refine y_bipush 68 Y dX6_let_68 rfl ?_
            refine y_isub 70 Y dX6_let_70 o22 ?_
            refine y_bipush 71 Y dX6_let_71 rfl ?_
            refine y_call 73 Y (as := [mi (a1 - 97), mi 60]) [] dX6_let_73 rfl rfl rfl rfl rfl h (fun r S26 hq hI _ => ?_)
            obtain ⟨rfl, h⟩ := Qv_ok hq
            replace h := h hI
            clear hq
            refine y_iload_n 76 Y dX6_let_76 rfl ?_
            exact y_iret 77 Y dX6_let_77 rfl h
        · replace h := h.2 c
          refine y_iconst 33 Y dX6_let_33 rfl ?_
          exact y_iret 34 Y dX6_let_34 rfl h
    · replace h := h.2 c
      refine y_iconst 8 Y dX6_let_8 rfl ?_
      refine y_goto 9 13 Y dX6_let_9 rfl rfl ?_
      refine y_aload_n 13 Y dX6_let_13 rfl ?_
      refine y_iload_n 14 Y dX6_let_14 rfl ?_
      refine y_call 15 Y (as := [mi a2]) [mi 1, mt] dX6_let_15 rfl rfl rfl rfl rfl h (fun r S27 hq hI hr => ?_)
      obtain ⟨v28, rfl, h⟩ := Qi_ok hq
      replace h := h hI (mokI (hr _ rfl))
      clear hq hr
      refine y_if 18 25 Y dX6_let_18 rfl rfl (fun c => ?_) (fun c => ?_)
      · replace h := h.1 c
        refine y_iconst 25 Y dX6_let_25 rfl ?_
        refine y_iconst 26 Y dX6_let_26 rfl ?_
        refine y_call 27 Y (as := [mi 1, mi 0, mi 0]) [] dX6_let_27 rfl rfl rfl rfl rfl h (fun r S29 hq hI hr => ?_)
        obtain ⟨v30, rfl, h⟩ := Qi_ok hq
        replace h := h hI (mokI (hr _ rfl))
        clear hq hr
        refine y_if 30 35 Y dX6_let_30 rfl rfl (fun c => ?_) (fun c => ?_)
        · replace h := h.1 c
          refine y_aload_n 35 Y dX6_let_35 rfl ?_
          refine y_iload_n 36 Y dX6_let_36 rfl ?_
          refine y_calls 37 Y (as := [mi a2]) [mt] dX6_let_37 rfl rfl rfl rfl rfl h (fun r S31 hq hI hr => ?_)
          obtain ⟨v32, rfl, h⟩ := Qi_ok hq
          replace h := h hI (mokI (hr _ rfl))
          clear hq hr
          refine y_call 40 Y (as := [mi v32]) [] dX6_let_40 rfl rfl rfl rfl rfl h (fun r S33 hq hI hr => ?_)
          obtain ⟨v34, rfl, h⟩ := Qi_ok hq
          replace h := h hI (mokI (hr _ rfl))
          clear hq hr
          refine y_istore_n 43 Y [some mt, some (mi a1), some (mi a2), some (mi v34)] dX6_let_43 rfl rfl ?_
          refine y_iload_n 44 Y dX6_let_44 rfl ?_
          refine y_if 45 76 Y dX6_let_45 rfl rfl (fun c => ?_) (fun c => ?_)
          · replace h := h.1 c
            refine y_iload_n 76 Y dX6_let_76 rfl ?_
            exact y_iret 77 Y dX6_let_77 rfl h
          · replace h := h.2 c
            refine y_aload_n 48 Y dX6_let_48 rfl ?_
            refine y_iload_n 49 Y dX6_let_49 rfl ?_
            refine y_bipush 50 Y dX6_let_50 rfl ?_
            obtain ⟨o35, h⟩ := h
            refine y_isub 52 Y dX6_let_52 o35 ?_
            refine y_call 53 Y (as := [mi (a1 - 97)]) [] dX6_let_53 rfl rfl rfl rfl rfl h (fun r S36 hq hI _ => ?_)
            obtain ⟨rfl, h⟩ := Qv_ok hq
            replace h := h hI
            clear hq
            refine y_aload_n 56 Y dX6_let_56 rfl ?_
            refine y_geta 57 Y 47 dX6_let_57 rfl rfl ?_
            refine y_iload_n 60 Y dX6_let_60 rfl ?_
            refine y_bipush 61 Y dX6_let_61 rfl ?_
            refine y_isub 63 Y dX6_let_63 o35 ?_
            refine y_iconst 64 Y dX6_let_64 rfl ?_
            obtain ⟨o37, h⟩ := h
            obtain ⟨o38, h⟩ := h
            refine y_bast 65 Y dX6_let_65 rfl rfl o37 o38 (by decide) ?_
            refine y_aload_n 66 Y dX6_let_66 rfl ?_
            refine y_iload_n 67 Y dX6_let_67 rfl ?_
            refine y_bipush 68 Y dX6_let_68 rfl ?_
            refine y_isub 70 Y dX6_let_70 o35 ?_
            refine y_bipush 71 Y dX6_let_71 rfl ?_
            refine y_call 73 Y (as := [mi (a1 - 97), mi 60]) [] dX6_let_73 rfl rfl rfl rfl rfl h (fun r S39 hq hI _ => ?_)
            obtain ⟨rfl, h⟩ := Qv_ok hq
            replace h := h hI
            clear hq
            refine y_iload_n 76 Y dX6_let_76 rfl ?_
            exact y_iret 77 Y dX6_let_77 rfl h
        · replace h := h.2 c
          refine y_iconst 33 Y dX6_let_33 rfl ?_
          exact y_iret 34 Y dX6_let_34 rfl h
      · replace h := h.2 c
        refine y_iconst 21 Y dX6_let_21 rfl ?_
        refine y_goto 22 26 Y dX6_let_22 rfl rfl ?_
        refine y_iconst 26 Y dX6_let_26 rfl ?_
        refine y_call 27 Y (as := [mi 1, mi 1, mi 0]) [] dX6_let_27 rfl rfl rfl rfl rfl h (fun r S40 hq hI hr => ?_)
        obtain ⟨v41, rfl, h⟩ := Qi_ok hq
        replace h := h hI (mokI (hr _ rfl))
        clear hq hr
        refine y_if 30 35 Y dX6_let_30 rfl rfl (fun c => ?_) (fun c => ?_)
        · replace h := h.1 c
          refine y_aload_n 35 Y dX6_let_35 rfl ?_
          refine y_iload_n 36 Y dX6_let_36 rfl ?_
          refine y_calls 37 Y (as := [mi a2]) [mt] dX6_let_37 rfl rfl rfl rfl rfl h (fun r S42 hq hI hr => ?_)
          obtain ⟨v43, rfl, h⟩ := Qi_ok hq
          replace h := h hI (mokI (hr _ rfl))
          clear hq hr
          refine y_call 40 Y (as := [mi v43]) [] dX6_let_40 rfl rfl rfl rfl rfl h (fun r S44 hq hI hr => ?_)
          obtain ⟨v45, rfl, h⟩ := Qi_ok hq
          replace h := h hI (mokI (hr _ rfl))
          clear hq hr
          refine y_istore_n 43 Y [some mt, some (mi a1), some (mi a2), some (mi v45)] dX6_let_43 rfl rfl ?_
          refine y_iload_n 44 Y dX6_let_44 rfl ?_
          refine y_if 45 76 Y dX6_let_45 rfl rfl (fun c => ?_) (fun c => ?_)
          · replace h := h.1 c
            refine y_iload_n 76 Y dX6_let_76 rfl ?_
            exact y_iret 77 Y dX6_let_77 rfl h
          · replace h := h.2 c
            refine y_aload_n 48 Y dX6_let_48 rfl ?_
            refine y_iload_n 49 Y dX6_let_49 rfl ?_
            refine y_bipush 50 Y dX6_let_50 rfl ?_
            obtain ⟨o46, h⟩ := h
            refine y_isub 52 Y dX6_let_52 o46 ?_
            refine y_call 53 Y (as := [mi (a1 - 97)]) [] dX6_let_53 rfl rfl rfl rfl rfl h (fun r S47 hq hI _ => ?_)
            obtain ⟨rfl, h⟩ := Qv_ok hq
            replace h := h hI
            clear hq
            refine y_aload_n 56 Y dX6_let_56 rfl ?_
            refine y_geta 57 Y 47 dX6_let_57 rfl rfl ?_
            refine y_iload_n 60 Y dX6_let_60 rfl ?_
            refine y_bipush 61 Y dX6_let_61 rfl ?_
            refine y_isub 63 Y dX6_let_63 o46 ?_
            refine y_iconst 64 Y dX6_let_64 rfl ?_
            obtain ⟨o48, h⟩ := h
            obtain ⟨o49, h⟩ := h
            refine y_bast 65 Y dX6_let_65 rfl rfl o48 o49 (by decide) ?_
            refine y_aload_n 66 Y dX6_let_66 rfl ?_
            refine y_iload_n 67 Y dX6_let_67 rfl ?_
            refine y_bipush 68 Y dX6_let_68 rfl ?_
            refine y_isub 70 Y dX6_let_70 o46 ?_
            refine y_bipush 71 Y dX6_let_71 rfl ?_
            refine y_call 73 Y (as := [mi (a1 - 97), mi 60]) [] dX6_let_73 rfl rfl rfl rfl rfl h (fun r S50 hq hI _ => ?_)
            obtain ⟨rfl, h⟩ := Qv_ok hq
            replace h := h hI
            clear hq
            refine y_iload_n 76 Y dX6_let_76 rfl ?_
            exact y_iret 77 Y dX6_let_77 rfl h
        · replace h := h.2 c
          refine y_iconst 33 Y dX6_let_33 rfl ?_
          exact y_iret 34 Y dX6_let_34 rfl h
  · intro n pc L st T hi
    exact hi.elim

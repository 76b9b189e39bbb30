/-! Contracts out of conditions; printed by gen_vc.py. -/
set_option maxRecDepth 100000
set_option maxHeartbeats 4000000 in
theorem of_deriveTwo {g : mG} {S : mS} {a1 a2 a3 : Int} {Qp : Option mV → mS → Prop}
    (hE : mI S → (-2147483648 ≤ a1 ∧ a1 ≤ 2147483647) → (-2147483648 ≤ a2 ∧ a2 ≤ 2147483647) → (-2147483648 ≤ a3 ∧ a3 ≤ 2147483647) → (-2147483648 ≤ ((a1 + 1) : Int) ∧ (a1 + 1) ≤ 2147483647) ∧ CX_child g [mt, mi a1, mi 1] S (Qi fun v3 S2 => mI S2 → (-2147483648 ≤ v3 ∧ v3 ≤ 2147483647) → (0 ≤ a1) ∧ (a1 < 20300) ∧ (a3 = 2 → CX_signBetween g [mt, mi 0] S2 (Qi fun v7 S6 => mI S6 → (-2147483648 ≤ v7 ∧ v7 ≤ 2147483647) → CX_add g [mt, mi 3, mi v7, mi 2, mi 2] S6 (Qv fun S8 => mI S8 → CX_add g [mt, mi 3, mi (S2 5 a1), mi 2, mi 2] S8 (Qv fun S9 => mI S9 → CX_addDerived g [mt, mi (a1 + 1), mi a2] S9 (Qv fun S10 => mI S10 → CX_addTree g [mt, mi v3] S10 (Qv fun S11 => mI S11 → CX_add g [mt, mi 3, mi (S2 5 a1), mi 2, mi 2] S11 (Qv fun S12 => mI S12 → CX_addTree g [mt, mi (a1 + 1)] S12 (Qv fun S13 => mI S13 → CX_addDerived g [mt, mi v3, mi a2] S13 (Qv fun S14 => mI S14 → Qp none S14))))))))) ∧ (a3 = 3 → CX_add g [mt, mi 3, mi (S2 5 a1), mi 2, mi 2] S2 (Qv fun S15 => mI S15 → CX_signBetween g [mt, mi 1] S15 (Qi fun v17 S16 => mI S16 → (-2147483648 ≤ v17 ∧ v17 ≤ 2147483647) → CX_add g [mt, mi 3, mi v17, mi 2, mi 2] S16 (Qv fun S18 => mI S18 → CX_signBetween g [mt, mi 2] S18 (Qi fun v20 S19 => mI S19 → (-2147483648 ≤ v20 ∧ v20 ≤ 2147483647) → CX_add g [mt, mi 3, mi v20, mi 2, mi 2] S19 (Qv fun S21 => mI S21 → CX_addDerived g [mt, mi (a1 + 1), mi a2] S21 (Qv fun S22 => mI S22 → CX_addTree g [mt, mi v3] S22 (Qv fun S23 => mI S23 → CX_signBetween g [mt, mi 2] S23 (Qi fun v25 S24 => mI S24 → (-2147483648 ≤ v25 ∧ v25 ≤ 2147483647) → CX_add g [mt, mi 3, mi v25, mi 2, mi 2] S24 (Qv fun S26 => mI S26 → CX_addTree g [mt, mi (a1 + 1)] S26 (Qv fun S27 => mI S27 → CX_addDerived g [mt, mi v3, mi a2] S27 (Qv fun S28 => mI S28 → CX_signBetween g [mt, mi 5] S28 (Qi fun v30 S29 => mI S29 → (-2147483648 ≤ v30 ∧ v30 ≤ 2147483647) → CX_add g [mt, mi 3, mi v30, mi 2, mi 2] S29 (Qv fun S31 => mI S31 → CX_addTree g [mt, mi v3] S31 (Qv fun S32 => mI S32 → CX_add g [mt, mi 0, mi 2, mi (-1), mi 0] S32 (Qv fun S33 => mI S33 → Qp none S33)))))))))))))))) ∧ (a3 = 4 → CX_add g [mt, mi 3, mi (S2 5 a1), mi 2, mi 2] S2 (Qv fun S34 => mI S34 → CX_addDerived g [mt, mi (a1 + 1), mi a2] S34 (Qv fun S35 => mI S35 → CX_addDerived g [mt, mi v3, mi a2] S35 (Qv fun S36 => mI S36 → Qp none S36)))) ∧ (a3 = 5 → (0 ≤ v3) ∧ (v3 < 20300) ∧ (((S2 5 v3) ≠ 0) → CX_signBetween g [mt, mi 2] S2 (Qi fun v40 S39 => mI S39 → (-2147483648 ≤ v40 ∧ v40 ≤ 2147483647) → CX_add g [mt, mi 3, mi v40, mi 2, mi 2] S39 (Qv fun S41 => mI S41 → CX_signBetween g [mt, mi 2] S41 (Qi fun v43 S42 => mI S42 → (-2147483648 ≤ v43 ∧ v43 ≤ 2147483647) → CX_add g [mt, mi 3, mi v43, mi 2, mi 2] S42 (Qv fun S44 => mI S44 → CX_add g [mt, mi 0, mi (S44 5 v3), mi (-1), mi 0] S44 (Qv fun S45 => mI S45 → CX_add g [mt, mi 3, mi (S2 5 a1), mi 2, mi 2] S45 (Qv fun S46 => mI S46 → CX_addTree g [mt, mi (a1 + 1)] S46 (Qv fun S47 => mI S47 → (-2147483648 ≤ (((S47 5 v3) - 1) : Int) ∧ ((S47 5 v3) - 1) ≤ 2147483647) ∧ CX_add g [mt, mi 0, mi ((S47 5 v3) - 1), mi (-1), mi 0] S47 (Qv fun S49 => mI S49 → CX_addDerived g [mt, mi (a1 + 1), mi a2] S49 (Qv fun S50 => mI S50 → Qp none S50)))))))))) ∧ (¬ ((S2 5 v3) ≠ 0) → CX_add g [mt, mi 0, mi 0, mi (-1), mi 0] S2 (Qv fun S51 => mI S51 → Qp none S51))) ∧ (a3 < 2 ∨ 5 < a3 → CX_add g [mt, mi 3, mi (S2 5 a1), mi 2, mi 2] S2 (Qv fun S52 => mI S52 → CX_addDerived g [mt, mi (a1 + 1), mi a2] S52 (Qv fun S53 => mI S53 → CX_addDerived g [mt, mi v3, mi a2] S53 (Qv fun S54 => mI S54 → Qp none S54))))))
    : CX_deriveTwo g [mt, mi a1, mi a2, mi a3] S Qp := by
  refine cm_y ⟨by decide, rfl⟩ (by simp [mcat]) (by simp) (fun _ _ _ _ _ => False) ?_ ?_
  · intro ha hS P Y Wk hIc
    have h := hE hS (mokI (ha (mi a1) (by simp))) (mokI (ha (mi a2) (by simp))) (mokI (ha (mi a3) (by simp)))
    clear hE ha
    refine y_iload_n 0 Y dX6_deriveTwo_0 rfl ?_
    refine y_iconst 1 Y dX6_deriveTwo_1 rfl ?_
    obtain ⟨o1, h⟩ := h
    refine y_iadd 2 Y dX6_deriveTwo_2 o1 ?_
    refine y_istore 3 Y [some mt, some (mi a1), some (mi a2), some (mi a3), some (mi (a1 + 1)), none, none] dX6_deriveTwo_3 rfl rfl ?_
    refine y_aload_n 5 Y dX6_deriveTwo_5 rfl ?_
    refine y_iload_n 6 Y dX6_deriveTwo_6 rfl ?_
    refine y_iconst 7 Y dX6_deriveTwo_7 rfl ?_
    refine y_call 8 Y (as := [mi a1, mi 1]) [] dX6_deriveTwo_8 rfl rfl rfl rfl rfl h (fun r S2 hq hI hr => ?_)
    obtain ⟨v3, rfl, h⟩ := Qi_ok hq
    replace h := h hI (mokI (hr _ rfl))
    clear hq hr
    refine y_istore 11 Y [some mt, some (mi a1), some (mi a2), some (mi a3), some (mi (a1 + 1)), some (mi v3), none] dX6_deriveTwo_11 rfl rfl ?_
    refine y_aload_n 13 Y dX6_deriveTwo_13 rfl ?_
    refine y_geta 14 Y 5 dX6_deriveTwo_14 rfl rfl ?_
    refine y_iload_n 17 Y dX6_deriveTwo_17 rfl ?_
    obtain ⟨o4, h⟩ := h
    obtain ⟨o5, h⟩ := h
    refine y_iald 18 Y dX6_deriveTwo_18 rfl rfl o4 o5 (fun _ => ?_)
    refine y_istore 19 Y [some mt, some (mi a1), some (mi a2), some (mi a3), some (mi (a1 + 1)), some (mi v3), some (mi (S2 5 a1))] dX6_deriveTwo_19 rfl rfl ?_
    refine y_iload_n 21 Y dX6_deriveTwo_21 rfl ?_
    refine y_table 22 Y dX6_deriveTwo_22 rfl (And.intro (fun c => ?_) (And.intro (fun c => ?_) (And.intro (fun c => ?_) (And.intro (fun c => ?_) trivial)))) (fun c => ?_)
    · replace h := h.1 c
      refine y_aload_n 52 Y dX6_deriveTwo_52 rfl ?_
      refine y_iconst 53 Y dX6_deriveTwo_53 rfl ?_
      refine y_aload_n 54 Y dX6_deriveTwo_54 rfl ?_
      refine y_iconst 55 Y dX6_deriveTwo_55 rfl ?_
      refine y_call 56 Y (as := [mi 0]) [mi 3, mt] dX6_deriveTwo_56 rfl rfl rfl rfl rfl h (fun r S6 hq hI hr => ?_)
      obtain ⟨v7, rfl, h⟩ := Qi_ok hq
      replace h := h hI (mokI (hr _ rfl))
      clear hq hr
      refine y_iconst 59 Y dX6_deriveTwo_59 rfl ?_
      refine y_iconst 60 Y dX6_deriveTwo_60 rfl ?_
      refine y_call 61 Y (as := [mi 3, mi v7, mi 2, mi 2]) [] dX6_deriveTwo_61 rfl rfl rfl rfl rfl h (fun r S8 hq hI _ => ?_)
      obtain ⟨rfl, h⟩ := Qv_ok hq
      replace h := h hI
      clear hq
      refine y_aload_n 64 Y dX6_deriveTwo_64 rfl ?_
      refine y_iconst 65 Y dX6_deriveTwo_65 rfl ?_
      refine y_iload 66 Y dX6_deriveTwo_66 rfl ?_
      refine y_iconst 68 Y dX6_deriveTwo_68 rfl ?_
      refine y_iconst 69 Y dX6_deriveTwo_69 rfl ?_
      refine y_call 70 Y (as := [mi 3, mi (S2 5 a1), mi 2, mi 2]) [] dX6_deriveTwo_70 rfl rfl rfl rfl rfl h (fun r S9 hq hI _ => ?_)
      obtain ⟨rfl, h⟩ := Qv_ok hq
      replace h := h hI
      clear hq
      refine y_aload_n 73 Y dX6_deriveTwo_73 rfl ?_
      refine y_iload 74 Y dX6_deriveTwo_74 rfl ?_
      refine y_iload_n 76 Y dX6_deriveTwo_76 rfl ?_
      refine y_call 77 Y (as := [mi (a1 + 1), mi a2]) [] dX6_deriveTwo_77 rfl rfl rfl rfl rfl h (fun r S10 hq hI _ => ?_)
      obtain ⟨rfl, h⟩ := Qv_ok hq
      replace h := h hI
      clear hq
      refine y_aload_n 80 Y dX6_deriveTwo_80 rfl ?_
      refine y_iload 81 Y dX6_deriveTwo_81 rfl ?_
      refine y_call 83 Y (as := [mi v3]) [] dX6_deriveTwo_83 rfl rfl rfl rfl rfl h (fun r S11 hq hI _ => ?_)
      obtain ⟨rfl, h⟩ := Qv_ok hq
      replace h := h hI
      clear hq
      refine y_aload_n 86 Y dX6_deriveTwo_86 rfl ?_
      refine y_iconst 87 Y dX6_deriveTwo_87 rfl ?_
      refine y_iload 88 Y dX6_deriveTwo_88 rfl ?_
      refine y_iconst 90 Y dX6_deriveTwo_90 rfl ?_
      refine y_iconst 91 Y dX6_deriveTwo_91 rfl ?_
      refine y_call 92 Y (as := [mi 3, mi (S2 5 a1), mi 2, mi 2]) [] dX6_deriveTwo_92 rfl rfl rfl rfl rfl h (fun r S12 hq hI _ => ?_)
      obtain ⟨rfl, h⟩ := Qv_ok hq
      replace h := h hI
      clear hq
      refine y_aload_n 95 Y dX6_deriveTwo_95 rfl ?_
      refine y_iload 96 Y dX6_deriveTwo_96 rfl ?_
      refine y_call 98 Y (as := [mi (a1 + 1)]) [] dX6_deriveTwo_98 rfl rfl rfl rfl rfl h (fun r S13 hq hI _ => ?_)
      obtain ⟨rfl, h⟩ := Qv_ok hq
      replace h := h hI
      clear hq
      refine y_aload_n 101 Y dX6_deriveTwo_101 rfl ?_
      refine y_iload 102 Y dX6_deriveTwo_102 rfl ?_
      refine y_iload_n 104 Y dX6_deriveTwo_104 rfl ?_
      refine y_call 105 Y (as := [mi v3, mi a2]) [] dX6_deriveTwo_105 rfl rfl rfl rfl rfl h (fun r S14 hq hI _ => ?_)
      obtain ⟨rfl, h⟩ := Qv_ok hq
      replace h := h hI
      clear hq
      refine y_goto 108 334 Y dX6_deriveTwo_108 rfl rfl ?_
      exact y_ret 334 Y dX6_deriveTwo_334 rfl h
    · replace h := h.2.1 c
      refine y_aload_n 111 Y dX6_deriveTwo_111 rfl ?_
      refine y_iconst 112 Y dX6_deriveTwo_112 rfl ?_
      refine y_iload 113 Y dX6_deriveTwo_113 rfl ?_
      refine y_iconst 115 Y dX6_deriveTwo_115 rfl ?_
      refine y_iconst 116 Y dX6_deriveTwo_116 rfl ?_
      refine y_call 117 Y (as := [mi 3, mi (S2 5 a1), mi 2, mi 2]) [] dX6_deriveTwo_117 rfl rfl rfl rfl rfl h (fun r S15 hq hI _ => ?_)
      obtain ⟨rfl, h⟩ := Qv_ok hq
      replace h := h hI
      clear hq
      refine y_aload_n 120 Y dX6_deriveTwo_120 rfl ?_
      refine y_iconst 121 Y dX6_deriveTwo_121 rfl ?_
      refine y_aload_n 122 Y dX6_deriveTwo_122 rfl ?_
      refine y_iconst 123 Y dX6_deriveTwo_123 rfl ?_
      refine y_call 124 Y (as := [mi 1]) [mi 3, mt] dX6_deriveTwo_124 rfl rfl rfl rfl rfl h (fun r S16 hq hI hr => ?_)
      obtain ⟨v17, rfl, h⟩ := Qi_ok hq
      replace h := h hI (mokI (hr _ rfl))
      clear hq hr
      refine y_iconst 127 Y dX6_deriveTwo_127 rfl ?_
      refine y_iconst 128 Y dX6_deriveTwo_128 rfl ?_
      refine y_call 129 Y (as := [mi 3, mi v17, mi 2, mi 2]) [] dX6_deriveTwo_129 rfl rfl rfl rfl rfl h (fun r S18 hq hI _ => ?_)
      obtain ⟨rfl, h⟩ := Qv_ok hq
      replace h := h hI
      clear hq
      refine y_aload_n 132 Y dX6_deriveTwo_132 rfl ?_
      refine y_iconst 133 Y dX6_deriveTwo_133 rfl ?_
      refine y_aload_n 134 Y dX6_deriveTwo_134 rfl ?_
      refine y_iconst 135 Y dX6_deriveTwo_135 rfl ?_
      refine y_call 136 Y (as := [mi 2]) [mi 3, mt] dX6_deriveTwo_136 rfl rfl rfl rfl rfl h (fun r S19 hq hI hr => ?_)
      obtain ⟨v20, rfl, h⟩ := Qi_ok hq
      replace h := h hI (mokI (hr _ rfl))
      clear hq hr
      refine y_iconst 139 Y dX6_deriveTwo_139 rfl ?_
      refine y_iconst 140 Y dX6_deriveTwo_140 rfl ?_
      refine y_call 141 Y (as := [mi 3, mi v20, mi 2, mi 2]) [] dX6_deriveTwo_141 rfl rfl rfl rfl rfl h (fun r S21 hq hI _ => ?_)
      obtain ⟨rfl, h⟩ := Qv_ok hq
      replace h := h hI
      clear hq
      refine y_aload_n 144 Y dX6_deriveTwo_144 rfl ?_
      refine y_iload 145 Y dX6_deriveTwo_145 rfl ?_
      refine y_iload_n 147 Y dX6_deriveTwo_147 rfl ?_
      refine y_call 148 Y (as := [mi (a1 + 1), mi a2]) [] dX6_deriveTwo_148 rfl rfl rfl rfl rfl h (fun r S22 hq hI _ => ?_)
      obtain ⟨rfl, h⟩ := Qv_ok hq
      replace h := h hI
      clear hq
      refine y_aload_n 151 Y dX6_deriveTwo_151 rfl ?_
      refine y_iload 152 Y dX6_deriveTwo_152 rfl ?_
      refine y_call 154 Y (as := [mi v3]) [] dX6_deriveTwo_154 rfl rfl rfl rfl rfl h (fun r S23 hq hI _ => ?_)
      obtain ⟨rfl, h⟩ := Qv_ok hq
      replace h := h hI
      clear hq
      refine y_aload_n 157 Y dX6_deriveTwo_157 rfl ?_
      refine y_iconst 158 Y dX6_deriveTwo_158 rfl ?_
      refine y_aload_n 159 Y dX6_deriveTwo_159 rfl ?_
      refine y_iconst 160 Y dX6_deriveTwo_160 rfl ?_
      refine y_call 161 Y (as := [mi 2]) [mi 3, mt] dX6_deriveTwo_161 rfl rfl rfl rfl rfl h (fun r S24 hq hI hr => ?_)
      obtain ⟨v25, rfl, h⟩ := Qi_ok hq
      replace h := h hI (mokI (hr _ rfl))
      clear hq hr
      refine y_iconst 164 Y dX6_deriveTwo_164 rfl ?_
      refine y_iconst 165 Y dX6_deriveTwo_165 rfl ?_
      refine y_call 166 Y (as := [mi 3, mi v25, mi 2, mi 2]) [] dX6_deriveTwo_166 rfl rfl rfl rfl rfl h (fun r S26 hq hI _ => ?_)
      obtain ⟨rfl, h⟩ := Qv_ok hq
      replace h := h hI
      clear hq
      refine y_aload_n 169 Y dX6_deriveTwo_169 rfl ?_
      refine y_iload 170 Y dX6_deriveTwo_170 rfl ?_
      refine y_call 172 Y (as := [mi (a1 + 1)]) [] dX6_deriveTwo_172 rfl rfl rfl rfl rfl h (fun r S27 hq hI _ => ?_)
      obtain ⟨rfl, h⟩ := Qv_ok hq
      replace h := h hI
      clear hq
      refine y_aload_n 175 Y dX6_deriveTwo_175 rfl ?_
      refine y_iload 176 Y dX6_deriveTwo_176 rfl ?_
      refine y_iload_n 178 Y dX6_deriveTwo_178 rfl ?_
      refine y_call 179 Y (as := [mi v3, mi a2]) [] dX6_deriveTwo_179 rfl rfl rfl rfl rfl h (fun r S28 hq hI _ => ?_)
      obtain ⟨rfl, h⟩ := Qv_ok hq
      replace h := h hI
      clear hq
      refine y_aload_n 182 Y dX6_deriveTwo_182 rfl ?_
      refine y_iconst 183 Y dX6_deriveTwo_183 rfl ?_
      refine y_aload_n 184 Y dX6_deriveTwo_184 rfl ?_
      refine y_iconst 185 Y dX6_deriveTwo_185 rfl ?_
      refine y_call 186 Y (as := [mi 5]) [mi 3, mt] dX6_deriveTwo_186 rfl rfl rfl rfl rfl h (fun r S29 hq hI hr => ?_)
      obtain ⟨v30, rfl, h⟩ := Qi_ok hq
      replace h := h hI (mokI (hr _ rfl))
      clear hq hr
      refine y_iconst 189 Y dX6_deriveTwo_189 rfl ?_
      refine y_iconst 190 Y dX6_deriveTwo_190 rfl ?_
      refine y_call 191 Y (as := [mi 3, mi v30, mi 2, mi 2]) [] dX6_deriveTwo_191 rfl rfl rfl rfl rfl h (fun r S31 hq hI _ => ?_)
      obtain ⟨rfl, h⟩ := Qv_ok hq
      replace h := h hI
      clear hq
      refine y_aload_n 194 Y dX6_deriveTwo_194 rfl ?_
      refine y_iload 195 Y dX6_deriveTwo_195 rfl ?_
      refine y_call 197 Y (as := [mi v3]) [] dX6_deriveTwo_197 rfl rfl rfl rfl rfl h (fun r S32 hq hI _ => ?_)
      obtain ⟨rfl, h⟩ := Qv_ok hq
      replace h := h hI
      clear hq
      refine y_aload_n 200 Y dX6_deriveTwo_200 rfl ?_
      refine y_iconst 201 Y dX6_deriveTwo_201 rfl ?_
      refine y_iconst 202 Y dX6_deriveTwo_202 rfl ?_
      refine y_iconst 203 Y dX6_deriveTwo_203 rfl ?_
      refine y_iconst 204 Y dX6_deriveTwo_204 rfl ?_
      refine y_call 205 Y (as := [mi 0, mi 2, mi (-1), mi 0]) [] dX6_deriveTwo_205 rfl rfl rfl rfl rfl h (fun r S33 hq hI _ => ?_)
      obtain ⟨rfl, h⟩ := Qv_ok hq
      replace h := h hI
      clear hq
      refine y_goto 208 334 Y dX6_deriveTwo_208 rfl rfl ?_
      exact y_ret 334 Y dX6_deriveTwo_334 rfl h
    · replace h := h.2.2.1 c
      refine y_aload_n 311 Y dX6_deriveTwo_311 rfl ?_
      refine y_iconst 312 Y dX6_deriveTwo_312 rfl ?_
      refine y_iload 313 Y dX6_deriveTwo_313 rfl ?_
      refine y_iconst 315 Y dX6_deriveTwo_315 rfl ?_
      refine y_iconst 316 Y dX6_deriveTwo_316 rfl ?_
      refine y_call 317 Y (as := [mi 3, mi (S2 5 a1), mi 2, mi 2]) [] dX6_deriveTwo_317 rfl rfl rfl rfl rfl h (fun r S34 hq hI _ => ?_)
      obtain ⟨rfl, h⟩ := Qv_ok hq
      replace h := h hI
      clear hq
      refine y_aload_n 320 Y dX6_deriveTwo_320 rfl ?_
      refine y_iload 321 Y dX6_deriveTwo_321 rfl ?_
      refine y_iload_n 323 Y dX6_deriveTwo_323 rfl ?_
      refine y_call 324 Y (as := [mi (a1 + 1), mi a2]) [] dX6_deriveTwo_324 rfl rfl rfl rfl rfl h (fun r S35 hq hI _ => ?_)
      obtain ⟨rfl, h⟩ := Qv_ok hq
      replace h := h hI
      clear hq
      refine y_aload_n 327 Y dX6_deriveTwo_327 rfl ?_
      refine y_iload 328 Y dX6_deriveTwo_328 rfl ?_
      refine y_iload_n 330 Y dX6_deriveTwo_330 rfl ?_
      refine y_call 331 Y (as := [mi v3, mi a2]) [] dX6_deriveTwo_331 rfl rfl rfl rfl rfl h (fun r S36 hq hI _ => ?_)
      obtain ⟨rfl, h⟩ := Qv_ok hq
      replace h := h hI
      clear hq
      exact y_ret 334 Y dX6_deriveTwo_334 rfl h
    · replace h := h.2.2.2.1 c
      refine y_aload_n 211 Y dX6_deriveTwo_211 rfl ?_
      refine y_geta 212 Y 5 dX6_deriveTwo_212 rfl rfl ?_
      refine y_iload 215 Y dX6_deriveTwo_215 rfl ?_
      obtain ⟨o37, h⟩ := h
      obtain ⟨o38, h⟩ := h
      refine y_iald 217 Y dX6_deriveTwo_217 rfl rfl o37 o38 (fun _ => ?_)
      refine y_if 218 232 Y dX6_deriveTwo_218 rfl rfl (fun c => ?_) (fun c => ?_)
      · replace h := h.1 c
        refine y_aload_n 232 Y dX6_deriveTwo_232 rfl ?_
        refine y_iconst 233 Y dX6_deriveTwo_233 rfl ?_
        refine y_aload_n 234 Y dX6_deriveTwo_234 rfl ?_
        refine y_iconst 235 Y dX6_deriveTwo_235 rfl ?_
        refine y_call 236 Y (as := [mi 2]) [mi 3, mt] dX6_deriveTwo_236 rfl rfl rfl rfl rfl h (fun r S39 hq hI hr => ?_)
        obtain ⟨v40, rfl, h⟩ := Qi_ok hq
        replace h := h hI (mokI (hr _ rfl))
        clear hq hr
        refine y_iconst 239 Y dX6_deriveTwo_239 rfl ?_
        refine y_iconst 240 Y dX6_deriveTwo_240 rfl ?_
        refine y_call 241 Y (as := [mi 3, mi v40, mi 2, mi 2]) [] dX6_deriveTwo_241 rfl rfl rfl rfl rfl h (fun r S41 hq hI _ => ?_)
        obtain ⟨rfl, h⟩ := Qv_ok hq
        replace h := h hI
        clear hq
        refine y_aload_n 244 Y dX6_deriveTwo_244 rfl ?_
        refine y_iconst 245 Y dX6_deriveTwo_245 rfl ?_
        refine y_aload_n 246 Y dX6_deriveTwo_246 rfl ?_
        refine y_iconst 247 Y dX6_deriveTwo_247 rfl ?_
        refine y_call 248 Y (as := [mi 2]) [mi 3, mt] dX6_deriveTwo_248 rfl rfl rfl rfl rfl h (fun r S42 hq hI hr => ?_)
        obtain ⟨v43, rfl, h⟩ := Qi_ok hq
        replace h := h hI (mokI (hr _ rfl))
        clear hq hr
        refine y_iconst 251 Y dX6_deriveTwo_251 rfl ?_
        refine y_iconst 252 Y dX6_deriveTwo_252 rfl ?_
        refine y_call 253 Y (as := [mi 3, mi v43, mi 2, mi 2]) [] dX6_deriveTwo_253 rfl rfl rfl rfl rfl h (fun r S44 hq hI _ => ?_)
        obtain ⟨rfl, h⟩ := Qv_ok hq
        replace h := h hI
        clear hq
        refine y_aload_n 256 Y dX6_deriveTwo_256 rfl ?_
        refine y_iconst 257 Y dX6_deriveTwo_257 rfl ?_
        refine y_aload_n 258 Y dX6_deriveTwo_258 rfl ?_
        refine y_geta 259 Y 5 dX6_deriveTwo_259 rfl rfl ?_
        refine y_iload 262 Y dX6_deriveTwo_262 rfl ?_
        refine y_iald 264 Y dX6_deriveTwo_264 rfl rfl o37 o38 (fun _ => ?_)
        refine y_iconst 265 Y dX6_deriveTwo_265 rfl ?_
        refine y_iconst 266 Y dX6_deriveTwo_266 rfl ?_
        refine y_call 267 Y (as := [mi 0, mi (S44 5 v3), mi (-1), mi 0]) [] dX6_deriveTwo_267 rfl rfl rfl rfl rfl h (fun r S45 hq hI _ => ?_)
        obtain ⟨rfl, h⟩ := Qv_ok hq
        replace h := h hI
        clear hq
        refine y_aload_n 270 Y dX6_deriveTwo_270 rfl ?_
        refine y_iconst 271 Y dX6_deriveTwo_271 rfl ?_
        refine y_iload 272 Y dX6_deriveTwo_272 rfl ?_
        refine y_iconst 274 Y dX6_deriveTwo_274 rfl ?_
        refine y_iconst 275 Y dX6_deriveTwo_275 rfl ?_
        refine y_call 276 Y (as := [mi 3, mi (S2 5 a1), mi 2, mi 2]) [] dX6_deriveTwo_276 rfl rfl rfl rfl rfl h (fun r S46 hq hI _ => ?_)
        obtain ⟨rfl, h⟩ := Qv_ok hq
        replace h := h hI
        clear hq
        refine y_aload_n 279 Y dX6_deriveTwo_279 rfl ?_
        refine y_iload 280 Y dX6_deriveTwo_280 rfl ?_
        refine y_call 282 Y (as := [mi (a1 + 1)]) [] dX6_deriveTwo_282 rfl rfl rfl rfl rfl h (fun r S47 hq hI _ => ?_)
        obtain ⟨rfl, h⟩ := Qv_ok hq
        replace h := h hI
        clear hq
        refine y_aload_n 285 Y dX6_deriveTwo_285 rfl ?_
        refine y_iconst 286 Y dX6_deriveTwo_286 rfl ?_
        refine y_aload_n 287 Y dX6_deriveTwo_287 rfl ?_
        refine y_geta 288 Y 5 dX6_deriveTwo_288 rfl rfl ?_
        refine y_iload 291 Y dX6_deriveTwo_291 rfl ?_
        refine y_iald 293 Y dX6_deriveTwo_293 rfl rfl o37 o38 (fun _ => ?_)
        refine y_iconst 294 Y dX6_deriveTwo_294 rfl ?_
        obtain ⟨o48, h⟩ := h
        refine y_isub 295 Y dX6_deriveTwo_295 o48 ?_
        refine y_iconst 296 Y dX6_deriveTwo_296 rfl ?_
        refine y_iconst 297 Y dX6_deriveTwo_297 rfl ?_
        refine y_call 298 Y (as := [mi 0, mi ((S47 5 v3) - 1), mi (-1), mi 0]) [] dX6_deriveTwo_298 rfl rfl rfl rfl rfl h (fun r S49 hq hI _ => ?_)
        obtain ⟨rfl, h⟩ := Qv_ok hq
        replace h := h hI
        clear hq
        refine y_aload_n 301 Y dX6_deriveTwo_301 rfl ?_
        refine y_iload 302 Y dX6_deriveTwo_302 rfl ?_
        refine y_iload_n 304 Y dX6_deriveTwo_304 rfl ?_
        refine y_call 305 Y (as := [mi (a1 + 1), mi a2]) [] dX6_deriveTwo_305 rfl rfl rfl rfl rfl h (fun r S50 hq hI _ => ?_)
        obtain ⟨rfl, h⟩ := Qv_ok hq
        replace h := h hI
        clear hq
        refine y_goto 308 334 Y dX6_deriveTwo_308 rfl rfl ?_
        exact y_ret 334 Y dX6_deriveTwo_334 rfl h
      · replace h := h.2 c
        refine y_aload_n 221 Y dX6_deriveTwo_221 rfl ?_
        refine y_iconst 222 Y dX6_deriveTwo_222 rfl ?_
        refine y_iconst 223 Y dX6_deriveTwo_223 rfl ?_
        refine y_iconst 224 Y dX6_deriveTwo_224 rfl ?_
        refine y_iconst 225 Y dX6_deriveTwo_225 rfl ?_
        refine y_call 226 Y (as := [mi 0, mi 0, mi (-1), mi 0]) [] dX6_deriveTwo_226 rfl rfl rfl rfl rfl h (fun r S51 hq hI _ => ?_)
        obtain ⟨rfl, h⟩ := Qv_ok hq
        replace h := h hI
        clear hq
        refine y_goto 229 334 Y dX6_deriveTwo_229 rfl rfl ?_
        exact y_ret 334 Y dX6_deriveTwo_334 rfl h
    · replace h := h.2.2.2.2 c
      refine y_aload_n 311 Y dX6_deriveTwo_311 rfl ?_
      refine y_iconst 312 Y dX6_deriveTwo_312 rfl ?_
      refine y_iload 313 Y dX6_deriveTwo_313 rfl ?_
      refine y_iconst 315 Y dX6_deriveTwo_315 rfl ?_
      refine y_iconst 316 Y dX6_deriveTwo_316 rfl ?_
      refine y_call 317 Y (as := [mi 3, mi (S2 5 a1), mi 2, mi 2]) [] dX6_deriveTwo_317 rfl rfl rfl rfl rfl h (fun r S52 hq hI _ => ?_)
      obtain ⟨rfl, h⟩ := Qv_ok hq
      replace h := h hI
      clear hq
      refine y_aload_n 320 Y dX6_deriveTwo_320 rfl ?_
      refine y_iload 321 Y dX6_deriveTwo_321 rfl ?_
      refine y_iload_n 323 Y dX6_deriveTwo_323 rfl ?_
      refine y_call 324 Y (as := [mi (a1 + 1), mi a2]) [] dX6_deriveTwo_324 rfl rfl rfl rfl rfl h (fun r S53 hq hI _ => ?_)
      obtain ⟨rfl, h⟩ := Qv_ok hq
      replace h := h hI
      clear hq
      refine y_aload_n 327 Y dX6_deriveTwo_327 rfl ?_
      refine y_iload 328 Y dX6_deriveTwo_328 rfl ?_
      refine y_iload_n 330 Y dX6_deriveTwo_330 rfl ?_
      refine y_call 331 Y (as := [mi v3, mi a2]) [] dX6_deriveTwo_331 rfl rfl rfl rfl rfl h (fun r S54 hq hI _ => ?_)
      obtain ⟨rfl, h⟩ := Qv_ok hq
      replace h := h hI
      clear hq
      exact y_ret 334 Y dX6_deriveTwo_334 rfl h
  · intro n pc L st T hi
    exact hi.elim
set_option maxHeartbeats 4000000 in
theorem of_gathered {g : mG} {S : mS} {a1 a2 : Int} {Qp : Option mV → mS → Prop}
    (hE : mI S → (-2147483648 ≤ a1 ∧ a1 ≤ 2147483647) → (-2147483648 ≤ a2 ∧ a2 ≤ 2147483647) → CX_isProduct g [mt, mi a1] S (Qi fun v2 S1 => mI S1 → (-2147483648 ≤ v2 ∧ v2 ≤ 2147483647) → ((v2 = 0) → Qp (some (mi (-1))) S1) ∧ (¬ (v2 = 0) → CX_isProduct g [mt, mi a2] S1 (Qi fun v4 S3 => mI S3 → (-2147483648 ≤ v4 ∧ v4 ≤ 2147483647) → ((v4 = 0) → Qp (some (mi (-1))) S3) ∧ (¬ (v4 = 0) → (-2147483648 ≤ ((a1 + 2) : Int) ∧ (a1 + 2) ≤ 2147483647) ∧ (-2147483648 ≤ ((a2 + 2) : Int) ∧ (a2 + 2) ≤ 2147483647) ∧ CX_areSame g [mt, mi (a1 + 2), mi (a2 + 2)] S3 (Qi fun v8 S7 => mI S7 → (-2147483648 ≤ v8 ∧ v8 ≤ 2147483647) → ((v8 ≠ 0) → (-2147483648 ≤ ((a1 + 1) : Int) ∧ (a1 + 1) ≤ 2147483647) ∧ (0 ≤ (a1 + 1)) ∧ ((a1 + 1) < 20300) ∧ (-2147483648 ≤ ((a2 + 1) : Int) ∧ (a2 + 1) ≤ 2147483647) ∧ (0 ≤ (a2 + 1)) ∧ ((a2 + 1) < 20300) ∧ (-2147483648 ≤ (((S7 5 (a1 + 1)) + (S7 5 (a2 + 1))) : Int) ∧ ((S7 5 (a1 + 1)) + (S7 5 (a2 + 1))) ≤ 2147483647) ∧ ((999999999 < ((S7 5 (a1 + 1)) + (S7 5 (a2 + 1)))) → Qp (some (mi (-1))) S7) ∧ (¬ (999999999 < ((S7 5 (a1 + 1)) + (S7 5 (a2 + 1)))) → Qp (some (mi ((S7 5 (a1 + 1)) + (S7 5 (a2 + 1))))) S7)) ∧ (¬ (v8 ≠ 0) → Qp (some (mi (-1))) S7)))))))
    : CX_gathered g [mt, mi a1, mi a2] S Qp := by
  refine cm_y ⟨by decide, rfl⟩ (by simp [mcat]) (by simp) (fun _ _ _ _ _ => False) ?_ ?_
  · intro ha hS P Y Wk hIc
    have h := hE hS (mokI (ha (mi a1) (by simp))) (mokI (ha (mi a2) (by simp)))
    clear hE ha
    refine y_aload_n 0 Y dX6_gathered_0 rfl ?_
    refine y_iload_n 1 Y dX6_gathered_1 rfl ?_
    refine y_call 2 Y (as := [mi a1]) [] dX6_gathered_2 rfl rfl rfl rfl rfl h (fun r S1 hq hI hr => ?_)
    obtain ⟨v2, rfl, h⟩ := Qi_ok hq
    replace h := h hI (mokI (hr _ rfl))
    clear hq hr
    refine y_if 5 29 Y dX6_gathered_5 rfl rfl (fun c => ?_) (fun c => ?_)
    · replace h := h.1 c
      refine y_iconst 29 Y dX6_gathered_29 rfl ?_
      exact y_iret 30 Y dX6_gathered_30 rfl h
    · replace h := h.2 c
      refine y_aload_n 8 Y dX6_gathered_8 rfl ?_
      refine y_iload_n 9 Y dX6_gathered_9 rfl ?_
      refine y_call 10 Y (as := [mi a2]) [] dX6_gathered_10 rfl rfl rfl rfl rfl h (fun r S3 hq hI hr => ?_)
      obtain ⟨v4, rfl, h⟩ := Qi_ok hq
      replace h := h hI (mokI (hr _ rfl))
      clear hq hr
      refine y_if 13 29 Y dX6_gathered_13 rfl rfl (fun c => ?_) (fun c => ?_)
      · replace h := h.1 c
        refine y_iconst 29 Y dX6_gathered_29 rfl ?_
        exact y_iret 30 Y dX6_gathered_30 rfl h
      · replace h := h.2 c
        refine y_aload_n 16 Y dX6_gathered_16 rfl ?_
        refine y_iload_n 17 Y dX6_gathered_17 rfl ?_
        refine y_iconst 18 Y dX6_gathered_18 rfl ?_
        obtain ⟨o5, h⟩ := h
        refine y_iadd 19 Y dX6_gathered_19 o5 ?_
        refine y_iload_n 20 Y dX6_gathered_20 rfl ?_
        refine y_iconst 21 Y dX6_gathered_21 rfl ?_
        obtain ⟨o6, h⟩ := h
        refine y_iadd 22 Y dX6_gathered_22 o6 ?_
        refine y_call 23 Y (as := [mi (a1 + 2), mi (a2 + 2)]) [] dX6_gathered_23 rfl rfl rfl rfl rfl h (fun r S7 hq hI hr => ?_)
        obtain ⟨v8, rfl, h⟩ := Qi_ok hq
        replace h := h hI (mokI (hr _ rfl))
        clear hq hr
        refine y_if 26 31 Y dX6_gathered_26 rfl rfl (fun c => ?_) (fun c => ?_)
        · replace h := h.1 c
          refine y_aload_n 31 Y dX6_gathered_31 rfl ?_
          refine y_geta 32 Y 5 dX6_gathered_32 rfl rfl ?_
          refine y_iload_n 35 Y dX6_gathered_35 rfl ?_
          refine y_iconst 36 Y dX6_gathered_36 rfl ?_
          obtain ⟨o9, h⟩ := h
          refine y_iadd 37 Y dX6_gathered_37 o9 ?_
          obtain ⟨o10, h⟩ := h
          obtain ⟨o11, h⟩ := h
          refine y_iald 38 Y dX6_gathered_38 rfl rfl o10 o11 (fun _ => ?_)
          refine y_aload_n 39 Y dX6_gathered_39 rfl ?_
          refine y_geta 40 Y 5 dX6_gathered_40 rfl rfl ?_
          refine y_iload_n 43 Y dX6_gathered_43 rfl ?_
          refine y_iconst 44 Y dX6_gathered_44 rfl ?_
          obtain ⟨o12, h⟩ := h
          refine y_iadd 45 Y dX6_gathered_45 o12 ?_
          obtain ⟨o13, h⟩ := h
          obtain ⟨o14, h⟩ := h
          refine y_iald 46 Y dX6_gathered_46 rfl rfl o13 o14 (fun _ => ?_)
          obtain ⟨o15, h⟩ := h
          refine y_iadd 47 Y dX6_gathered_47 o15 ?_
          refine y_istore_n 48 Y [some mt, some (mi a1), some (mi a2), some (mi ((S7 5 (a1 + 1)) + (S7 5 (a2 + 1))))] dX6_gathered_48 rfl rfl ?_
          refine y_iload_n 49 Y dX6_gathered_49 rfl ?_
          refine y_ldc_w 50 Y dX6_gathered_50 rfl ?_
          refine y_icmp 53 60 Y dX6_gathered_53 rfl rfl (fun c => ?_) (fun c => ?_)
          · replace h := h.1 c
            refine y_iconst 60 Y dX6_gathered_60 rfl ?_
            exact y_iret 61 Y dX6_gathered_61 rfl h
          · replace h := h.2 c
            refine y_iload_n 56 Y dX6_gathered_56 rfl ?_
            refine y_goto 57 61 Y dX6_gathered_57 rfl rfl ?_
            exact y_iret 61 Y dX6_gathered_61 rfl h
        · replace h := h.2 c
          refine y_iconst 29 Y dX6_gathered_29 rfl ?_
          exact y_iret 30 Y dX6_gathered_30 rfl h
  · intro n pc L st T hi
    exact hi.elim
set_option maxHeartbeats 4000000 in
theorem of_leaf {g : mG} {S : mS} {a1 a2 : Int} {Qp : Option mV → mS → Prop}
    (hE : mI S → (-2147483648 ≤ a1 ∧ a1 ≤ 2147483647) → (-2147483648 ≤ a2 ∧ a2 ≤ 2147483647) → CX_count g [mt] S (Qi fun v2 S1 => mI S1 → (-2147483648 ≤ v2 ∧ v2 ≤ 2147483647) → ((v2 ≤ 0) → (-2147483648 ≤ (((S1 56 0) - 1) : Int) ∧ ((S1 56 0) - 1) ≤ 2147483647) ∧ (0 ≤ a1) ∧ (a1 < 20300) ∧ (((S1 4 a1) ≠ 0) → CX_look g [mt, mi (S1 5 a1), mi a2] (mup S1 56 0 ((S1 56 0) - 1)) (Qi fun v7 S6 => mI S6 → (-2147483648 ≤ v7 ∧ v7 ≤ 2147483647) → ((v7 ≠ (-1)) → (-2147483648 ≤ ((60 + (S6 61 0)) : Int) ∧ (60 + (S6 61 0)) ≤ 2147483647) ∧ CX_copyValue g [mt, mi (60 + (S6 61 0)), mi v7] S6 (Qv fun S9 => mI S9 → (-2147483648 ≤ (((S9 61 0) + 1) : Int) ∧ ((S9 61 0) + 1) ≤ 2147483647) ∧ Qp (some (mi 0)) (mup S9 61 0 ((S9 61 0) + 1)))) ∧ (¬ (v7 ≠ (-1)) → Qp (some (mi 4)) S6))) ∧ (¬ ((S1 4 a1) ≠ 0) → (-2147483648 ≤ ((60 + (S1 61 0)) : Int) ∧ (60 + (S1 61 0)) ≤ 2147483647) ∧ CX_setInt g [mt, mi (60 + (S1 61 0)), mi (S1 5 a1)] (mup S1 56 0 ((S1 56 0) - 1)) (Qv fun S12 => mI S12 → (-2147483648 ≤ (((S12 61 0) + 1) : Int) ∧ ((S12 61 0) + 1) ≤ 2147483647) ∧ Qp (some (mi 0)) (mup S12 61 0 ((S12 61 0) + 1))))) ∧ (¬ (v2 ≤ 0) → Qp (some (mi v2)) S1)))
    : CX_leaf g [mt, mi a1, mi a2] S Qp := by
  refine cm_y ⟨by decide, rfl⟩ (by simp [mcat]) (by simp) (fun _ _ _ _ _ => False) ?_ ?_
  · intro ha hS P Y Wk hIc
    have h := hE hS (mokI (ha (mi a1) (by simp))) (mokI (ha (mi a2) (by simp)))
    clear hE ha
    refine y_aload_n 0 Y dX6_leaf_0 rfl ?_
    refine y_call 1 Y (as := []) [] dX6_leaf_1 rfl rfl rfl rfl rfl h (fun r S1 hq hI hr => ?_)
    obtain ⟨v2, rfl, h⟩ := Qi_ok hq
    replace h := h hI (mokI (hr _ rfl))
    clear hq hr
    refine y_istore_n 4 Y [some mt, some (mi a1), some (mi a2), some (mi v2), none] dX6_leaf_4 rfl rfl ?_
    refine y_iload_n 5 Y dX6_leaf_5 rfl ?_
    refine y_if 6 11 Y dX6_leaf_6 rfl rfl (fun c => ?_) (fun c => ?_)
    · replace h := h.1 c
      refine y_aload_n 11 Y dX6_leaf_11 rfl ?_
      refine y_dup 12 Y dX6_leaf_12 rfl ?_
      refine y_getf 13 Y 56 dX6_leaf_13 rfl rfl (fun _ => ?_)
      refine y_iconst 16 Y dX6_leaf_16 rfl ?_
      obtain ⟨o3, h⟩ := h
      refine y_isub 17 Y dX6_leaf_17 o3 ?_
      refine y_putf 18 Y 56 dX6_leaf_18 rfl rfl (fun q => absurd q (by decide)) ?_
      refine y_aload_n 21 Y dX6_leaf_21 rfl ?_
      refine y_geta 22 Y 4 dX6_leaf_22 rfl rfl ?_
      refine y_iload_n 25 Y dX6_leaf_25 rfl ?_
      obtain ⟨o4, h⟩ := h
      obtain ⟨o5, h⟩ := h
      refine y_iald 26 Y dX6_leaf_26 rfl rfl o4 o5 (fun _ => ?_)
      refine y_if 27 50 Y dX6_leaf_27 rfl rfl (fun c => ?_) (fun c => ?_)
      · replace h := h.1 c
        refine y_aload_n 50 Y dX6_leaf_50 rfl ?_
        refine y_aload_n 51 Y dX6_leaf_51 rfl ?_
        refine y_geta 52 Y 5 dX6_leaf_52 rfl rfl ?_
        refine y_iload_n 55 Y dX6_leaf_55 rfl ?_
        refine y_iald 56 Y dX6_leaf_56 rfl rfl o4 o5 (fun _ => ?_)
        refine y_iload_n 57 Y dX6_leaf_57 rfl ?_
        refine y_call 58 Y (as := [mi (S1 5 a1), mi a2]) [] dX6_leaf_58 rfl rfl rfl rfl rfl h (fun r S6 hq hI hr => ?_)
        obtain ⟨v7, rfl, h⟩ := Qi_ok hq
        replace h := h hI (mokI (hr _ rfl))
        clear hq hr
        refine y_istore 61 Y [some mt, some (mi a1), some (mi a2), some (mi v2), some (mi v7)] dX6_leaf_61 rfl rfl ?_
        refine y_iload 63 Y dX6_leaf_63 rfl ?_
        refine y_iconst 65 Y dX6_leaf_65 rfl ?_
        refine y_icmp 66 71 Y dX6_leaf_66 rfl rfl (fun c => ?_) (fun c => ?_)
        · replace h := h.1 c
          refine y_aload_n 71 Y dX6_leaf_71 rfl ?_
          refine y_bipush 72 Y dX6_leaf_72 rfl ?_
          refine y_aload_n 74 Y dX6_leaf_74 rfl ?_
          refine y_getf 75 Y 61 dX6_leaf_75 rfl rfl (fun _ => ?_)
          obtain ⟨o8, h⟩ := h
          refine y_iadd 78 Y dX6_leaf_78 o8 ?_
          refine y_iload 79 Y dX6_leaf_79 rfl ?_
          refine y_call 81 Y (as := [mi (60 + (S6 61 0)), mi v7]) [] dX6_leaf_81 rfl rfl rfl rfl rfl h (fun r S9 hq hI _ => ?_)
          obtain ⟨rfl, h⟩ := Qv_ok hq
          replace h := h hI
          clear hq
          refine y_aload_n 84 Y dX6_leaf_84 rfl ?_
          refine y_dup 85 Y dX6_leaf_85 rfl ?_
          refine y_getf 86 Y 61 dX6_leaf_86 rfl rfl (fun _ => ?_)
          refine y_iconst 89 Y dX6_leaf_89 rfl ?_
          obtain ⟨o10, h⟩ := h
          refine y_iadd 90 Y dX6_leaf_90 o10 ?_
          refine y_putf 91 Y 61 dX6_leaf_91 rfl rfl (fun q => absurd q (by decide)) ?_
          refine y_iconst 94 Y dX6_leaf_94 rfl ?_
          exact y_iret 95 Y dX6_leaf_95 rfl h
        · replace h := h.2 c
          refine y_iconst 69 Y dX6_leaf_69 rfl ?_
          exact y_iret 70 Y dX6_leaf_70 rfl h
      · replace h := h.2 c
        refine y_aload_n 30 Y dX6_leaf_30 rfl ?_
        refine y_bipush 31 Y dX6_leaf_31 rfl ?_
        refine y_aload_n 33 Y dX6_leaf_33 rfl ?_
        refine y_getf 34 Y 61 dX6_leaf_34 rfl rfl (fun _ => ?_)
        obtain ⟨o11, h⟩ := h
        refine y_iadd 37 Y dX6_leaf_37 o11 ?_
        refine y_aload_n 38 Y dX6_leaf_38 rfl ?_
        refine y_geta 39 Y 5 dX6_leaf_39 rfl rfl ?_
        refine y_iload_n 42 Y dX6_leaf_42 rfl ?_
        refine y_iald 43 Y dX6_leaf_43 rfl rfl o4 o5 (fun _ => ?_)
        refine y_call 44 Y (as := [mi (60 + (S1 61 0)), mi (S1 5 a1)]) [] dX6_leaf_44 rfl rfl rfl rfl rfl h (fun r S12 hq hI _ => ?_)
        obtain ⟨rfl, h⟩ := Qv_ok hq
        replace h := h hI
        clear hq
        refine y_goto 47 84 Y dX6_leaf_47 rfl rfl ?_
        refine y_aload_n 84 Y dX6_leaf_84 rfl ?_
        refine y_dup 85 Y dX6_leaf_85 rfl ?_
        refine y_getf 86 Y 61 dX6_leaf_86 rfl rfl (fun _ => ?_)
        refine y_iconst 89 Y dX6_leaf_89 rfl ?_
        obtain ⟨o13, h⟩ := h
        refine y_iadd 90 Y dX6_leaf_90 o13 ?_
        refine y_putf 91 Y 61 dX6_leaf_91 rfl rfl (fun q => absurd q (by decide)) ?_
        refine y_iconst 94 Y dX6_leaf_94 rfl ?_
        exact y_iret 95 Y dX6_leaf_95 rfl h
    · replace h := h.2 c
      refine y_iload_n 9 Y dX6_leaf_9 rfl ?_
      exact y_iret 10 Y dX6_leaf_10 rfl h
  · intro n pc L st T hi
    exact hi.elim
set_option maxHeartbeats 4000000 in
theorem of_lex {g : mG} {S : mS}  {Qp : Option mV → mS → Prop} (I12 : Nat → Int → mS → Prop)
    (hE : mI S → (∃ n1, I12 n1 0 (mup (mup S 25 0 0) 26 0 0)))
    (h12 : ∀ (n : Nat) (l1 : Int) (T : mS), mI T → (-2147483648 ≤ l1 ∧ l1 ≤ 2147483647) → I12 n l1 T → (((T 19 0) ≤ l1) → Qp none T) ∧ (¬ ((T 19 0) ≤ l1) → (0 ≤ l1) ∧ (l1 < 60) ∧ (((T 18 l1) ≠ 32) → CX_in g [mi (T 18 l1), mi 48, mi 57] T (Qi fun v4 S3 => mI S3 → (-2147483648 ≤ v4 ∧ v4 ≤ 2147483647) → ((v4 = 0) → CX_in g [mi (T 18 l1), mi 97, mi 122] S3 (Qi fun v6 S5 => mI S5 → (-2147483648 ≤ v6 ∧ v6 ≤ 2147483647) → ((v6 = 0) → (((T 18 l1) ≠ 40) → (((T 18 l1) ≠ 41) → (((T 18 l1) ≠ 44) → CX_signOf g [mi (T 18 l1)] S5 (Qi fun v8 S7 => mI S7 → (-2147483648 ≤ v8 ∧ v8 ≤ 2147483647) → ((v8 = (-1)) → CX_word g [mt, mi (-1), mi (T 18 l1), mi l1] S7 (Qv fun S9 => mI S9 → (-2147483648 ≤ (((S9 25 0) - 1) : Int) ∧ ((S9 25 0) - 1) ≤ 2147483647) ∧ (0 ≤ ((S9 25 0) - 1)) ∧ (((S9 25 0) - 1) < 1000) ∧ (((S9 20 ((S9 25 0) - 1)) ≠ (-1)) → (-2147483648 ≤ ((l1 + 1) : Int) ∧ (l1 + 1) ≤ 2147483647) ∧ (∃ n1, n1 < n ∧ I12 n1 (l1 + 1) S9)) ∧ (¬ ((S9 20 ((S9 25 0) - 1)) ≠ (-1)) → Qp none S9))) ∧ (¬ (v8 = (-1)) → CX_word g [mt, mi 2, mi (T 18 l1), mi l1] S7 (Qv fun S14 => mI S14 → (-2147483648 ≤ (((S14 25 0) - 1) : Int) ∧ ((S14 25 0) - 1) ≤ 2147483647) ∧ (0 ≤ ((S14 25 0) - 1)) ∧ (((S14 25 0) - 1) < 1000) ∧ (((S14 20 ((S14 25 0) - 1)) ≠ (-1)) → (-2147483648 ≤ ((l1 + 1) : Int) ∧ (l1 + 1) ≤ 2147483647) ∧ (∃ n1, n1 < n ∧ I12 n1 (l1 + 1) S14)) ∧ (¬ ((S14 20 ((S14 25 0) - 1)) ≠ (-1)) → Qp none S14))))) ∧ (¬ ((T 18 l1) ≠ 44) → CX_word g [mt, mi 5, mi (T 18 l1), mi l1] S5 (Qv fun S19 => mI S19 → (-2147483648 ≤ (((S19 25 0) - 1) : Int) ∧ ((S19 25 0) - 1) ≤ 2147483647) ∧ (0 ≤ ((S19 25 0) - 1)) ∧ (((S19 25 0) - 1) < 1000) ∧ (((S19 20 ((S19 25 0) - 1)) ≠ (-1)) → (-2147483648 ≤ ((l1 + 1) : Int) ∧ (l1 + 1) ≤ 2147483647) ∧ (∃ n1, n1 < n ∧ I12 n1 (l1 + 1) S19)) ∧ (¬ ((S19 20 ((S19 25 0) - 1)) ≠ (-1)) → Qp none S19)))) ∧ (¬ ((T 18 l1) ≠ 41) → CX_word g [mt, mi 4, mi (T 18 l1), mi l1] S5 (Qv fun S24 => mI S24 → (-2147483648 ≤ (((S24 25 0) - 1) : Int) ∧ ((S24 25 0) - 1) ≤ 2147483647) ∧ (0 ≤ ((S24 25 0) - 1)) ∧ (((S24 25 0) - 1) < 1000) ∧ (((S24 20 ((S24 25 0) - 1)) ≠ (-1)) → (-2147483648 ≤ ((l1 + 1) : Int) ∧ (l1 + 1) ≤ 2147483647) ∧ (∃ n1, n1 < n ∧ I12 n1 (l1 + 1) S24)) ∧ (¬ ((S24 20 ((S24 25 0) - 1)) ≠ (-1)) → Qp none S24)))) ∧ (¬ ((T 18 l1) ≠ 40) → CX_word g [mt, mi 3, mi (T 18 l1), mi l1] S5 (Qv fun S29 => mI S29 → (-2147483648 ≤ (((S29 25 0) - 1) : Int) ∧ ((S29 25 0) - 1) ≤ 2147483647) ∧ (0 ≤ ((S29 25 0) - 1)) ∧ (((S29 25 0) - 1) < 1000) ∧ (((S29 20 ((S29 25 0) - 1)) ≠ (-1)) → (-2147483648 ≤ ((l1 + 1) : Int) ∧ (l1 + 1) ≤ 2147483647) ∧ (∃ n1, n1 < n ∧ I12 n1 (l1 + 1) S29)) ∧ (¬ ((S29 20 ((S29 25 0) - 1)) ≠ (-1)) → Qp none S29)))) ∧ (¬ (v6 = 0) → CX_word g [mt, mi 1, mi (T 18 l1), mi l1] S5 (Qv fun S34 => mI S34 → (-2147483648 ≤ (((S34 25 0) - 1) : Int) ∧ ((S34 25 0) - 1) ≤ 2147483647) ∧ (0 ≤ ((S34 25 0) - 1)) ∧ (((S34 25 0) - 1) < 1000) ∧ (((S34 20 ((S34 25 0) - 1)) ≠ (-1)) → (-2147483648 ≤ ((l1 + 1) : Int) ∧ (l1 + 1) ≤ 2147483647) ∧ (∃ n1, n1 < n ∧ I12 n1 (l1 + 1) S34)) ∧ (¬ ((S34 20 ((S34 25 0) - 1)) ≠ (-1)) → Qp none S34))))) ∧ (¬ (v4 = 0) → CX_number g [mt, mi l1] S3 (Qi fun v40 S39 => mI S39 → (-2147483648 ≤ v40 ∧ v40 ≤ 2147483647) → ((0 ≤ v40) → (∃ n1, n1 < n ∧ I12 n1 v40 S39)) ∧ (¬ (0 ≤ v40) → (-2147483648 ≤ ((-v40) : Int) ∧ (-v40) ≤ 2147483647) ∧ (((-v40) ≠ (S39 19 0)) → (-2147483648 ≤ ((mup S39 26 0 0) 26 0) ∧ ((mup S39 26 0 0) 26 0) ≤ 2147483647 → ((((mup S39 26 0 0) 26 0) ≠ 0) → Qp none (mup S39 26 0 0)) ∧ (¬ (((mup S39 26 0 0) 26 0) ≠ 0) → CX_word g [mt, mi (-1), mi 0, mi (-v40)] (mup S39 26 0 0) (Qv fun S42 => mI S42 → Qp none S42)))) ∧ (¬ ((-v40) ≠ (S39 19 0)) → (-2147483648 ≤ ((mup S39 26 0 1) 26 0) ∧ ((mup S39 26 0 1) 26 0) ≤ 2147483647 → ((((mup S39 26 0 1) 26 0) ≠ 0) → Qp none (mup S39 26 0 1)) ∧ (¬ (((mup S39 26 0 1) 26 0) ≠ 0) → CX_word g [mt, mi (-1), mi 0, mi (-v40)] (mup S39 26 0 1) (Qv fun S43 => mI S43 → Qp none S43))))))))) ∧ (¬ ((T 18 l1) ≠ 32) → (-2147483648 ≤ ((l1 + 1) : Int) ∧ (l1 + 1) ≤ 2147483647) ∧ (∃ n1, n1 < n ∧ I12 n1 (l1 + 1) T))))
    : CX_lex g [mt] S Qp := by
  refine cm_y ⟨by decide, rfl⟩ (by simp [mcat]) (by simp) (fun n pc L st S => (pc = 12 ∧ ∃ (l1 : Int), L = [some mt, some (mi l1), none, none] ∧ st = [] ∧ I12 n l1 S)) ?_ ?_
  · intro ha hS P Y Wk hIc
    have h := hE hS
    clear hE ha h12
    refine y_aload_n 0 Y dX6_lex_0 rfl ?_
    refine y_iconst 1 Y dX6_lex_1 rfl ?_
    refine y_putf 2 Y 25 dX6_lex_2 rfl rfl (fun q => absurd q (by decide)) ?_
    refine y_aload_n 5 Y dX6_lex_5 rfl ?_
    refine y_iconst 6 Y dX6_lex_6 rfl ?_
    refine y_putf 7 Y 26 dX6_lex_7 rfl rfl (fun _ => by decide) ?_
    refine y_iconst 10 Y dX6_lex_10 rfl ?_
    refine y_istore_n 11 Y [some mt, some (mi 0), none, none] dX6_lex_11 rfl rfl ?_
    obtain ⟨n1, h⟩ := h
    exact Wk 12 _ [some mt, some (mi 0), none, none] _ _ ⟨rfl, ⟨rfl, trivial⟩⟩ (hIc n1 _ _ _ _ ((⟨rfl, _, rfl, rfl, h⟩)))
  · intro n pc L st T hi hS hL P Y Wk hIc
    clear hE
    rcases hi with ⟨rfl, l1, rfl, rfl, hi⟩
    · have h := h12 n l1 T hS (hL 1 _ rfl) hi
      clear hL hi h12
      refine y_iload_n 12 Y dX6_lex_12 rfl ?_
      refine y_aload_n 13 Y dX6_lex_13 rfl ?_
      refine y_getf 14 Y 19 dX6_lex_14 rfl rfl (fun _ => ?_)
      refine y_icmp 17 185 Y dX6_lex_17 rfl rfl (fun c => ?_) (fun c => ?_)
      · replace h := h.1 c
        exact y_ret 185 Y dX6_lex_185 rfl h
      · replace h := h.2 c
        refine y_aload_n 20 Y dX6_lex_20 rfl ?_
        refine y_geta 21 Y 18 dX6_lex_21 rfl rfl ?_
        refine y_iload_n 24 Y dX6_lex_24 rfl ?_
        obtain ⟨o1, h⟩ := h
        obtain ⟨o2, h⟩ := h
        refine y_iald 25 Y dX6_lex_25 rfl rfl o1 o2 (fun _ => ?_)
        refine y_istore_n 26 Y [some mt, some (mi l1), some (mi (T 18 l1)), none] dX6_lex_26 rfl rfl ?_
        refine y_iload_n 27 Y dX6_lex_27 rfl ?_
        refine y_bipush 28 Y dX6_lex_28 rfl ?_
        refine y_icmp 30 39 Y dX6_lex_30 rfl rfl (fun c => ?_) (fun c => ?_)
        · replace h := h.1 c
          refine y_iload_n 39 Y dX6_lex_39 rfl ?_
          refine y_bipush 40 Y dX6_lex_40 rfl ?_
          refine y_bipush 42 Y dX6_lex_42 rfl ?_
          refine y_calls 44 Y (as := [mi (T 18 l1), mi 48, mi 57]) [] dX6_lex_44 rfl rfl rfl rfl rfl h (fun r S3 hq hI hr => ?_)
          obtain ⟨v4, rfl, h⟩ := Qi_ok hq
          replace h := h hI (mokI (hr _ rfl))
          clear hq hr
          refine y_if 47 99 Y dX6_lex_47 rfl rfl (fun c => ?_) (fun c => ?_)
          · replace h := h.1 c
            refine y_aload_n 99 Y dX6_lex_99 rfl ?_
            refine y_iload_n 100 Y dX6_lex_100 rfl ?_
            refine y_bipush 101 Y dX6_lex_101 rfl ?_
            refine y_bipush 103 Y dX6_lex_103 rfl ?_
            refine y_calls 105 Y (as := [mi (T 18 l1), mi 97, mi 122]) [mt] dX6_lex_105 rfl rfl rfl rfl rfl h (fun r S5 hq hI hr => ?_)
            obtain ⟨v6, rfl, h⟩ := Qi_ok hq
            replace h := h hI (mokI (hr _ rfl))
            clear hq hr
            refine y_if 108 115 Y dX6_lex_108 rfl rfl (fun c => ?_) (fun c => ?_)
            · replace h := h.1 c
              refine y_iload_n 115 Y dX6_lex_115 rfl ?_
              refine y_bipush 116 Y dX6_lex_116 rfl ?_
              refine y_icmp 118 125 Y dX6_lex_118 rfl rfl (fun c => ?_) (fun c => ?_)
              · replace h := h.1 c
                refine y_iload_n 125 Y dX6_lex_125 rfl ?_
                refine y_bipush 126 Y dX6_lex_126 rfl ?_
                refine y_icmp 128 135 Y dX6_lex_128 rfl rfl (fun c => ?_) (fun c => ?_)
                · replace h := h.1 c
                  refine y_iload_n 135 Y dX6_lex_135 rfl ?_
                  refine y_bipush 136 Y dX6_lex_136 rfl ?_
                  refine y_icmp 138 145 Y dX6_lex_138 rfl rfl (fun c => ?_) (fun c => ?_)
                  · replace h := h.1 c
                    refine y_iload_n 145 Y dX6_lex_145 rfl ?_
                    refine y_calls 146 Y (as := [mi (T 18 l1)]) [mt] dX6_lex_146 rfl rfl rfl rfl rfl h (fun r S7 hq hI hr => ?_)
                    obtain ⟨v8, rfl, h⟩ := Qi_ok hq
                    replace h := h hI (mokI (hr _ rfl))
                    clear hq hr
                    refine y_iconst 149 Y dX6_lex_149 rfl ?_
                    refine y_icmp 150 157 Y dX6_lex_150 rfl rfl (fun c => ?_) (fun c => ?_)
                    · replace h := h.1 c
                      refine y_iconst 157 Y dX6_lex_157 rfl ?_
                      refine y_iload_n 158 Y dX6_lex_158 rfl ?_
                      refine y_iload_n 159 Y dX6_lex_159 rfl ?_
                      refine y_call 160 Y (as := [mi (-1), mi (T 18 l1), mi l1]) [] dX6_lex_160 rfl rfl rfl rfl rfl h (fun r S9 hq hI _ => ?_)
                      obtain ⟨rfl, h⟩ := Qv_ok hq
                      replace h := h hI
                      clear hq
                      refine y_aload_n 163 Y dX6_lex_163 rfl ?_
                      refine y_geta 164 Y 20 dX6_lex_164 rfl rfl ?_
                      refine y_aload_n 167 Y dX6_lex_167 rfl ?_
                      refine y_getf 168 Y 25 dX6_lex_168 rfl rfl (fun _ => ?_)
                      refine y_iconst 171 Y dX6_lex_171 rfl ?_
                      obtain ⟨o10, h⟩ := h
                      refine y_isub 172 Y dX6_lex_172 o10 ?_
                      obtain ⟨o11, h⟩ := h
                      obtain ⟨o12, h⟩ := h
                      refine y_iald 173 Y dX6_lex_173 rfl rfl o11 o12 (fun _ => ?_)
                      refine y_iconst 174 Y dX6_lex_174 rfl ?_
                      refine y_icmp 175 179 Y dX6_lex_175 rfl rfl (fun c => ?_) (fun c => ?_)
                      · replace h := h.1 c
                        obtain ⟨o13, h⟩ := h
                        refine y_iinc 179 Y [some mt, some (mi (l1 + 1)), some (mi (T 18 l1)), none] dX6_lex_179 rfl rfl o13 ?_
                        refine y_goto 182 12 Y dX6_lex_182 rfl rfl ?_
                        obtain ⟨n1, hn, h⟩ := h
                        exact Wk 12 _ [some mt, some (mi (l1 + 1)), none, none] _ _ ⟨rfl, ⟨rfl, trivial⟩⟩ (hIc n1 _ _ _ _ hn ((⟨rfl, _, rfl, rfl, h⟩)))
                      · replace h := h.2 c
                        exact y_ret 178 Y dX6_lex_178 rfl h
                    · replace h := h.2 c
                      refine y_iconst 153 Y dX6_lex_153 rfl ?_
                      refine y_goto 154 158 Y dX6_lex_154 rfl rfl ?_
                      refine y_iload_n 158 Y dX6_lex_158 rfl ?_
                      refine y_iload_n 159 Y dX6_lex_159 rfl ?_
                      refine y_call 160 Y (as := [mi 2, mi (T 18 l1), mi l1]) [] dX6_lex_160 rfl rfl rfl rfl rfl h (fun r S14 hq hI _ => ?_)
                      obtain ⟨rfl, h⟩ := Qv_ok hq
                      replace h := h hI
                      clear hq
                      refine y_aload_n 163 Y dX6_lex_163 rfl ?_
                      refine y_geta 164 Y 20 dX6_lex_164 rfl rfl ?_
                      refine y_aload_n 167 Y dX6_lex_167 rfl ?_
                      refine y_getf 168 Y 25 dX6_lex_168 rfl rfl (fun _ => ?_)
                      refine y_iconst 171 Y dX6_lex_171 rfl ?_
                      obtain ⟨o15, h⟩ := h
                      refine y_isub 172 Y dX6_lex_172 o15 ?_
                      obtain ⟨o16, h⟩ := h
                      obtain ⟨o17, h⟩ := h
                      refine y_iald 173 Y dX6_lex_173 rfl rfl o16 o17 (fun _ => ?_)
                      refine y_iconst 174 Y dX6_lex_174 rfl ?_
                      refine y_icmp 175 179 Y dX6_lex_175 rfl rfl (fun c => ?_) (fun c => ?_)
                      · replace h := h.1 c
                        obtain ⟨o18, h⟩ := h
                        refine y_iinc 179 Y [some mt, some (mi (l1 + 1)), some (mi (T 18 l1)), none] dX6_lex_179 rfl rfl o18 ?_
                        refine y_goto 182 12 Y dX6_lex_182 rfl rfl ?_
                        obtain ⟨n1, hn, h⟩ := h
                        exact Wk 12 _ [some mt, some (mi (l1 + 1)), none, none] _ _ ⟨rfl, ⟨rfl, trivial⟩⟩ (hIc n1 _ _ _ _ hn ((⟨rfl, _, rfl, rfl, h⟩)))
                      · replace h := h.2 c
                        exact y_ret 178 Y dX6_lex_178 rfl h
                  · replace h := h.2 c
                    refine y_iconst 141 Y dX6_lex_141 rfl ?_
                    refine y_goto 142 158 Y dX6_lex_142 rfl rfl ?_
                    refine y_iload_n 158 Y dX6_lex_158 rfl ?_
                    refine y_iload_n 159 Y dX6_lex_159 rfl ?_
                    refine y_call 160 Y (as := [mi 5, mi (T 18 l1), mi l1]) [] dX6_lex_160 rfl rfl rfl rfl rfl h (fun r S19 hq hI _ => ?_)
                    obtain ⟨rfl, h⟩ := Qv_ok hq
                    replace h := h hI
                    clear hq
                    refine y_aload_n 163 Y dX6_lex_163 rfl ?_
                    refine y_geta 164 Y 20 dX6_lex_164 rfl rfl ?_
                    refine y_aload_n 167 Y dX6_lex_167 rfl ?_
                    refine y_getf 168 Y 25 dX6_lex_168 rfl rfl (fun _ => ?_)
                    refine y_iconst 171 Y dX6_lex_171 rfl ?_
                    obtain ⟨o20, h⟩ := h
                    refine y_isub 172 Y dX6_lex_172 o20 ?_
                    obtain ⟨o21, h⟩ := h
                    obtain ⟨o22, h⟩ := h
                    refine y_iald 173 Y dX6_lex_173 rfl rfl o21 o22 (fun _ => ?_)
                    refine y_iconst 174 Y dX6_lex_174 rfl ?_
                    refine y_icmp 175 179 Y dX6_lex_175 rfl rfl (fun c => ?_) (fun c => ?_)
                    · replace h := h.1 c
                      obtain ⟨o23, h⟩ := h
                      refine y_iinc 179 Y [some mt, some (mi (l1 + 1)), some (mi (T 18 l1)), none] dX6_lex_179 rfl rfl o23 ?_
                      refine y_goto 182 12 Y dX6_lex_182 rfl rfl ?_
                      obtain ⟨n1, hn, h⟩ := h
                      exact Wk 12 _ [some mt, some (mi (l1 + 1)), none, none] _ _ ⟨rfl, ⟨rfl, trivial⟩⟩ (hIc n1 _ _ _ _ hn ((⟨rfl, _, rfl, rfl, h⟩)))
                    · replace h := h.2 c
                      exact y_ret 178 Y dX6_lex_178 rfl h
                · replace h := h.2 c
                  refine y_iconst 131 Y dX6_lex_131 rfl ?_
                  refine y_goto 132 158 Y dX6_lex_132 rfl rfl ?_
                  refine y_iload_n 158 Y dX6_lex_158 rfl ?_
                  refine y_iload_n 159 Y dX6_lex_159 rfl ?_
                  refine y_call 160 Y (as := [mi 4, mi (T 18 l1), mi l1]) [] dX6_lex_160 rfl rfl rfl rfl rfl h (fun r S24 hq hI _ => ?_)
                  obtain ⟨rfl, h⟩ := Qv_ok hq
                  replace h := h hI
                  clear hq
                  refine y_aload_n 163 Y dX6_lex_163 rfl ?_
                  refine y_geta 164 Y 20 dX6_lex_164 rfl rfl ?_
                  refine y_aload_n 167 Y dX6_lex_167 rfl ?_
                  refine y_getf 168 Y 25 dX6_lex_168 rfl rfl (fun _ => ?_)
                  refine y_iconst 171 Y dX6_lex_171 rfl ?_
                  obtain ⟨o25, h⟩ := h
                  refine y_isub 172 Y dX6_lex_172 o25 ?_
                  obtain ⟨o26, h⟩ := h
                  obtain ⟨o27, h⟩ := h
                  refine y_iald 173 Y dX6_lex_173 rfl rfl o26 o27 (fun _ => ?_)
                  refine y_iconst 174 Y dX6_lex_174 rfl ?_
                  refine y_icmp 175 179 Y dX6_lex_175 rfl rfl (fun c => ?_) (fun c => ?_)
                  · replace h := h.1 c
                    obtain ⟨o28, h⟩ := h
                    refine y_iinc 179 Y [some mt, some (mi (l1 + 1)), some (mi (T 18 l1)), none] dX6_lex_179 rfl rfl o28 ?_
                    refine y_goto 182 12 Y dX6_lex_182 rfl rfl ?_
                    obtain ⟨n1, hn, h⟩ := h
                    exact Wk 12 _ [some mt, some (mi (l1 + 1)), none, none] _ _ ⟨rfl, ⟨rfl, trivial⟩⟩ (hIc n1 _ _ _ _ hn ((⟨rfl, _, rfl, rfl, h⟩)))
                  · replace h := h.2 c
                    exact y_ret 178 Y dX6_lex_178 rfl h
              · replace h := h.2 c
                refine y_iconst 121 Y dX6_lex_121 rfl ?_
                refine y_goto 122 158 Y dX6_lex_122 rfl rfl ?_
                refine y_iload_n 158 Y dX6_lex_158 rfl ?_
                refine y_iload_n 159 Y dX6_lex_159 rfl ?_
                refine y_call 160 Y (as := [mi 3, mi (T 18 l1), mi l1]) [] dX6_lex_160 rfl rfl rfl rfl rfl h (fun r S29 hq hI _ => ?_)
                obtain ⟨rfl, h⟩ := Qv_ok hq
                replace h := h hI
                clear hq
                refine y_aload_n 163 Y dX6_lex_163 rfl ?_
                refine y_geta 164 Y 20 dX6_lex_164 rfl rfl ?_
                refine y_aload_n 167 Y dX6_lex_167 rfl ?_
                refine y_getf 168 Y 25 dX6_lex_168 rfl rfl (fun _ => ?_)
                refine y_iconst 171 Y dX6_lex_171 rfl ?_
                obtain ⟨o30, h⟩ := h
                refine y_isub 172 Y dX6_lex_172 o30 ?_
                obtain ⟨o31, h⟩ := h
                obtain ⟨o32, h⟩ := h
                refine y_iald 173 Y dX6_lex_173 rfl rfl o31 o32 (fun _ => ?_)
                refine y_iconst 174 Y dX6_lex_174 rfl ?_
                refine y_icmp 175 179 Y dX6_lex_175 rfl rfl (fun c => ?_) (fun c => ?_)
                · replace h := h.1 c
                  obtain ⟨o33, h⟩ := h
                  refine y_iinc 179 Y [some mt, some (mi (l1 + 1)), some (mi (T 18 l1)), none] dX6_lex_179 rfl rfl o33 ?_
                  refine y_goto 182 12 Y dX6_lex_182 rfl rfl ?_
                  obtain ⟨n1, hn, h⟩ := h
                  exact Wk 12 _ [some mt, some (mi (l1 + 1)), none, none] _ _ ⟨rfl, ⟨rfl, trivial⟩⟩ (hIc n1 _ _ _ _ hn ((⟨rfl, _, rfl, rfl, h⟩)))
                · replace h := h.2 c
                  exact y_ret 178 Y dX6_lex_178 rfl h
            · replace h := h.2 c
              refine y_iconst 111 Y dX6_lex_111 rfl ?_
              refine y_goto 112 158 Y dX6_lex_112 rfl rfl ?_
              refine y_iload_n 158 Y dX6_lex_158 rfl ?_
              refine y_iload_n 159 Y dX6_lex_159 rfl ?_
              refine y_call 160 Y (as := [mi 1, mi (T 18 l1), mi l1]) [] dX6_lex_160 rfl rfl rfl rfl rfl h (fun r S34 hq hI _ => ?_)
              obtain ⟨rfl, h⟩ := Qv_ok hq
              replace h := h hI
              clear hq
              refine y_aload_n 163 Y dX6_lex_163 rfl ?_
              refine y_geta 164 Y 20 dX6_lex_164 rfl rfl ?_
              refine y_aload_n 167 Y dX6_lex_167 rfl ?_
              refine y_getf 168 Y 25 dX6_lex_168 rfl rfl (fun _ => ?_)
              refine y_iconst 171 Y dX6_lex_171 rfl ?_
              obtain ⟨o35, h⟩ := h
              refine y_isub 172 Y dX6_lex_172 o35 ?_
              obtain ⟨o36, h⟩ := h
              obtain ⟨o37, h⟩ := h
              refine y_iald 173 Y dX6_lex_173 rfl rfl o36 o37 (fun _ => ?_)
              refine y_iconst 174 Y dX6_lex_174 rfl ?_
              refine y_icmp 175 179 Y dX6_lex_175 rfl rfl (fun c => ?_) (fun c => ?_)
              · replace h := h.1 c
                obtain ⟨o38, h⟩ := h
                refine y_iinc 179 Y [some mt, some (mi (l1 + 1)), some (mi (T 18 l1)), none] dX6_lex_179 rfl rfl o38 ?_
                refine y_goto 182 12 Y dX6_lex_182 rfl rfl ?_
                obtain ⟨n1, hn, h⟩ := h
                exact Wk 12 _ [some mt, some (mi (l1 + 1)), none, none] _ _ ⟨rfl, ⟨rfl, trivial⟩⟩ (hIc n1 _ _ _ _ hn ((⟨rfl, _, rfl, rfl, h⟩)))
              · replace h := h.2 c
                exact y_ret 178 Y dX6_lex_178 rfl h
          · replace h := h.2 c
            refine y_aload_n 50 Y dX6_lex_50 rfl ?_
            refine y_iload_n 51 Y dX6_lex_51 rfl ?_
            refine y_call 52 Y (as := [mi l1]) [] dX6_lex_52 rfl rfl rfl rfl rfl h (fun r S39 hq hI hr => ?_)
            obtain ⟨v40, rfl, h⟩ := Qi_ok hq
            replace h := h hI (mokI (hr _ rfl))
            clear hq hr
            refine y_istore_n 55 Y [some mt, some (mi l1), some (mi (T 18 l1)), some (mi v40)] dX6_lex_55 rfl rfl ?_
            refine y_iload_n 56 Y dX6_lex_56 rfl ?_
            refine y_if 57 94 Y dX6_lex_57 rfl rfl (fun c => ?_) (fun c => ?_)
            · replace h := h.1 c
              refine y_iload_n 94 Y dX6_lex_94 rfl ?_
              refine y_istore_n 95 Y [some mt, some (mi v40), some (mi (T 18 l1)), some (mi v40)] dX6_lex_95 rfl rfl ?_
              refine y_goto 96 182 Y dX6_lex_96 rfl rfl ?_
              refine y_goto 182 12 Y dX6_lex_182 rfl rfl ?_
              obtain ⟨n1, hn, h⟩ := h
              exact Wk 12 _ [some mt, some (mi v40), none, none] _ _ ⟨rfl, ⟨rfl, trivial⟩⟩ (hIc n1 _ _ _ _ hn ((⟨rfl, _, rfl, rfl, h⟩)))
            · replace h := h.2 c
              refine y_aload_n 60 Y dX6_lex_60 rfl ?_
              refine y_iload_n 61 Y dX6_lex_61 rfl ?_
              obtain ⟨o41, h⟩ := h
              refine y_ineg 62 Y dX6_lex_62 o41 ?_
              refine y_aload_n 63 Y dX6_lex_63 rfl ?_
              refine y_getf 64 Y 19 dX6_lex_64 rfl rfl (fun _ => ?_)
              refine y_icmp 67 74 Y dX6_lex_67 rfl rfl (fun c => ?_) (fun c => ?_)
              · replace h := h.1 c
                refine y_iconst 74 Y dX6_lex_74 rfl ?_
                refine y_putf 75 Y 26 dX6_lex_75 rfl rfl (fun _ => by decide) ?_
                refine y_aload_n 78 Y dX6_lex_78 rfl ?_
                refine y_getf 79 Y 26 dX6_lex_79 rfl rfl (fun q => ?_)
                replace h := h q
                refine y_if 82 93 Y dX6_lex_82 rfl rfl (fun c => ?_) (fun c => ?_)
                · replace h := h.1 c
                  exact y_ret 93 Y dX6_lex_93 rfl h
                · replace h := h.2 c
                  refine y_aload_n 85 Y dX6_lex_85 rfl ?_
                  refine y_iconst 86 Y dX6_lex_86 rfl ?_
                  refine y_iconst 87 Y dX6_lex_87 rfl ?_
                  refine y_iload_n 88 Y dX6_lex_88 rfl ?_
                  refine y_ineg 89 Y dX6_lex_89 o41 ?_
                  refine y_call 90 Y (as := [mi (-1), mi 0, mi (-v40)]) [] dX6_lex_90 rfl rfl rfl rfl rfl h (fun r S42 hq hI _ => ?_)
                  obtain ⟨rfl, h⟩ := Qv_ok hq
                  replace h := h hI
                  clear hq
                  exact y_ret 93 Y dX6_lex_93 rfl h
              · replace h := h.2 c
                refine y_iconst 70 Y dX6_lex_70 rfl ?_
                refine y_goto 71 75 Y dX6_lex_71 rfl rfl ?_
                refine y_putf 75 Y 26 dX6_lex_75 rfl rfl (fun _ => by decide) ?_
                refine y_aload_n 78 Y dX6_lex_78 rfl ?_
                refine y_getf 79 Y 26 dX6_lex_79 rfl rfl (fun q => ?_)
                replace h := h q
                refine y_if 82 93 Y dX6_lex_82 rfl rfl (fun c => ?_) (fun c => ?_)
                · replace h := h.1 c
                  exact y_ret 93 Y dX6_lex_93 rfl h
                · replace h := h.2 c
                  refine y_aload_n 85 Y dX6_lex_85 rfl ?_
                  refine y_iconst 86 Y dX6_lex_86 rfl ?_
                  refine y_iconst 87 Y dX6_lex_87 rfl ?_
                  refine y_iload_n 88 Y dX6_lex_88 rfl ?_
                  refine y_ineg 89 Y dX6_lex_89 o41 ?_
                  refine y_call 90 Y (as := [mi (-1), mi 0, mi (-v40)]) [] dX6_lex_90 rfl rfl rfl rfl rfl h (fun r S43 hq hI _ => ?_)
                  obtain ⟨rfl, h⟩ := Qv_ok hq
                  replace h := h hI
                  clear hq
                  exact y_ret 93 Y dX6_lex_93 rfl h
        · replace h := h.2 c
          obtain ⟨o44, h⟩ := h
          refine y_iinc 33 Y [some mt, some (mi (l1 + 1)), some (mi (T 18 l1)), none] dX6_lex_33 rfl rfl o44 ?_
          refine y_goto 36 182 Y dX6_lex_36 rfl rfl ?_
          refine y_goto 182 12 Y dX6_lex_182 rfl rfl ?_
          obtain ⟨n1, hn, h⟩ := h
          exact Wk 12 _ [some mt, some (mi (l1 + 1)), none, none] _ _ ⟨rfl, ⟨rfl, trivial⟩⟩ (hIc n1 _ _ _ _ hn ((⟨rfl, _, rfl, rfl, h⟩)))
set_option maxHeartbeats 4000000 in
theorem of_lowest {g : mG} {S : mS} {a1 a2 : Int} {Qp : Option mV → mS → Prop}
    (hE : mI S → (-2147483648 ≤ a1 ∧ a1 ≤ 2147483647) → (-2147483648 ≤ a2 ∧ a2 ≤ 2147483647) → (0 ≤ a1) ∧ (a1 < 16) ∧ (((S 2 a1) ≠ 0) → CX_copy g [mt, mi 12, mi a1] S (Qv fun S3 => mI S3 → CX_copy g [mt, mi 13, mi a2] S3 (Qv fun S4 => mI S4 → CX_common g [mt, mi 12, mi 13] S4 (Qv fun S5 => mI S5 → ((1 < (S5 2 12)) → CX_copy g [mt, mi 13, mi 12] S5 (Qv fun S6 => mI S6 → CX_divide g [mt, mi 14, mi 15, mi a1, mi 13] S6 (Qv fun S7 => mI S7 → CX_copy g [mt, mi a1, mi 14] S7 (Qv fun S8 => mI S8 → CX_divide g [mt, mi 14, mi 15, mi a2, mi 13] S8 (Qv fun S9 => mI S9 → CX_copy g [mt, mi a2, mi 14] S9 (Qv fun S10 => mI S10 → Qp none S10)))))) ∧ (¬ (1 < (S5 2 12)) → (((S5 1 5280) ≤ 1) → Qp none S5) ∧ (¬ ((S5 1 5280) ≤ 1) → CX_copy g [mt, mi 13, mi 12] S5 (Qv fun S11 => mI S11 → CX_divide g [mt, mi 14, mi 15, mi a1, mi 13] S11 (Qv fun S12 => mI S12 → CX_copy g [mt, mi a1, mi 14] S12 (Qv fun S13 => mI S13 → CX_divide g [mt, mi 14, mi 15, mi a2, mi 13] S13 (Qv fun S14 => mI S14 → CX_copy g [mt, mi a2, mi 14] S14 (Qv fun S15 => mI S15 → Qp none S15))))))))))) ∧ (¬ ((S 2 a1) ≠ 0) → CX_put g [mt, mi a2, mi 1] S (Qv fun S16 => mI S16 → Qp none S16)))
    : CX_lowest g [mt, mi a1, mi a2] S Qp := by
  refine cm_y ⟨by decide, rfl⟩ (by simp [mcat]) (by simp) (fun _ _ _ _ _ => False) ?_ ?_
  · intro ha hS P Y Wk hIc
    have h := hE hS (mokI (ha (mi a1) (by simp))) (mokI (ha (mi a2) (by simp)))
    clear hE ha
    refine y_aload_n 0 Y dX6_lowest_0 rfl ?_
    refine y_geta 1 Y 2 dX6_lowest_1 rfl rfl ?_
    refine y_iload_n 4 Y dX6_lowest_4 rfl ?_
    obtain ⟨o1, h⟩ := h
    obtain ⟨o2, h⟩ := h
    refine y_iald 5 Y dX6_lowest_5 rfl rfl o1 o2 (fun _ => ?_)
    refine y_if 6 16 Y dX6_lowest_6 rfl rfl (fun c => ?_) (fun c => ?_)
    · replace h := h.1 c
      refine y_aload_n 16 Y dX6_lowest_16 rfl ?_
      refine y_bipush 17 Y dX6_lowest_17 rfl ?_
      refine y_iload_n 19 Y dX6_lowest_19 rfl ?_
      refine y_call 20 Y (as := [mi 12, mi a1]) [] dX6_lowest_20 rfl rfl rfl rfl rfl h (fun r S3 hq hI _ => ?_)
      obtain ⟨rfl, h⟩ := Qv_ok hq
      replace h := h hI
      clear hq
      refine y_aload_n 23 Y dX6_lowest_23 rfl ?_
      refine y_bipush 24 Y dX6_lowest_24 rfl ?_
      refine y_iload_n 26 Y dX6_lowest_26 rfl ?_
      refine y_call 27 Y (as := [mi 13, mi a2]) [] dX6_lowest_27 rfl rfl rfl rfl rfl h (fun r S4 hq hI _ => ?_)
      obtain ⟨rfl, h⟩ := Qv_ok hq
      replace h := h hI
      clear hq
      refine y_aload_n 30 Y dX6_lowest_30 rfl ?_
      refine y_bipush 31 Y dX6_lowest_31 rfl ?_
      refine y_bipush 33 Y dX6_lowest_33 rfl ?_
      refine y_call 35 Y (as := [mi 12, mi 13]) [] dX6_lowest_35 rfl rfl rfl rfl rfl h (fun r S5 hq hI _ => ?_)
      obtain ⟨rfl, h⟩ := Qv_ok hq
      replace h := h hI
      clear hq
      refine y_aload_n 38 Y dX6_lowest_38 rfl ?_
      refine y_geta 39 Y 2 dX6_lowest_39 rfl rfl ?_
      refine y_bipush 42 Y dX6_lowest_42 rfl ?_
      refine y_iald 44 Y dX6_lowest_44 rfl rfl (by decide) (by decide) (fun _ => ?_)
      refine y_iconst 45 Y dX6_lowest_45 rfl ?_
      refine y_icmp 46 61 Y dX6_lowest_46 rfl rfl (fun c => ?_) (fun c => ?_)
      · replace h := h.1 c
        refine y_aload_n 61 Y dX6_lowest_61 rfl ?_
        refine y_bipush 62 Y dX6_lowest_62 rfl ?_
        refine y_bipush 64 Y dX6_lowest_64 rfl ?_
        refine y_call 66 Y (as := [mi 13, mi 12]) [] dX6_lowest_66 rfl rfl rfl rfl rfl h (fun r S6 hq hI _ => ?_)
        obtain ⟨rfl, h⟩ := Qv_ok hq
        replace h := h hI
        clear hq
        refine y_aload_n 69 Y dX6_lowest_69 rfl ?_
        refine y_bipush 70 Y dX6_lowest_70 rfl ?_
        refine y_bipush 72 Y dX6_lowest_72 rfl ?_
        refine y_iload_n 74 Y dX6_lowest_74 rfl ?_
        refine y_bipush 75 Y dX6_lowest_75 rfl ?_
        refine y_call 77 Y (as := [mi 14, mi 15, mi a1, mi 13]) [] dX6_lowest_77 rfl rfl rfl rfl rfl h (fun r S7 hq hI _ => ?_)
        obtain ⟨rfl, h⟩ := Qv_ok hq
        replace h := h hI
        clear hq
        refine y_aload_n 80 Y dX6_lowest_80 rfl ?_
        refine y_iload_n 81 Y dX6_lowest_81 rfl ?_
        refine y_bipush 82 Y dX6_lowest_82 rfl ?_
        refine y_call 84 Y (as := [mi a1, mi 14]) [] dX6_lowest_84 rfl rfl rfl rfl rfl h (fun r S8 hq hI _ => ?_)
        obtain ⟨rfl, h⟩ := Qv_ok hq
        replace h := h hI
        clear hq
        refine y_aload_n 87 Y dX6_lowest_87 rfl ?_
        refine y_bipush 88 Y dX6_lowest_88 rfl ?_
        refine y_bipush 90 Y dX6_lowest_90 rfl ?_
        refine y_iload_n 92 Y dX6_lowest_92 rfl ?_
        refine y_bipush 93 Y dX6_lowest_93 rfl ?_
        refine y_call 95 Y (as := [mi 14, mi 15, mi a2, mi 13]) [] dX6_lowest_95 rfl rfl rfl rfl rfl h (fun r S9 hq hI _ => ?_)
        obtain ⟨rfl, h⟩ := Qv_ok hq
        replace h := h hI
        clear hq
        refine y_aload_n 98 Y dX6_lowest_98 rfl ?_
        refine y_iload_n 99 Y dX6_lowest_99 rfl ?_
        refine y_bipush 100 Y dX6_lowest_100 rfl ?_
        refine y_call 102 Y (as := [mi a2, mi 14]) [] dX6_lowest_102 rfl rfl rfl rfl rfl h (fun r S10 hq hI _ => ?_)
        obtain ⟨rfl, h⟩ := Qv_ok hq
        replace h := h hI
        clear hq
        exact y_ret 105 Y dX6_lowest_105 rfl h
      · replace h := h.2 c
        refine y_aload_n 49 Y dX6_lowest_49 rfl ?_
        refine y_geta 50 Y 1 dX6_lowest_50 rfl rfl ?_
        refine y_sipush 53 Y dX6_lowest_53 rfl ?_
        refine y_iald 56 Y dX6_lowest_56 rfl rfl (by decide) (by decide) (fun _ => ?_)
        refine y_iconst 57 Y dX6_lowest_57 rfl ?_
        refine y_icmp 58 105 Y dX6_lowest_58 rfl rfl (fun c => ?_) (fun c => ?_)
        · replace h := h.1 c
          exact y_ret 105 Y dX6_lowest_105 rfl h
        · replace h := h.2 c
          refine y_aload_n 61 Y dX6_lowest_61 rfl ?_
          refine y_bipush 62 Y dX6_lowest_62 rfl ?_
          refine y_bipush 64 Y dX6_lowest_64 rfl ?_
          refine y_call 66 Y (as := [mi 13, mi 12]) [] dX6_lowest_66 rfl rfl rfl rfl rfl h (fun r S11 hq hI _ => ?_)
          obtain ⟨rfl, h⟩ := Qv_ok hq
          replace h := h hI
          clear hq
          refine y_aload_n 69 Y dX6_lowest_69 rfl ?_
          refine y_bipush 70 Y dX6_lowest_70 rfl ?_
          refine y_bipush 72 Y dX6_lowest_72 rfl ?_
          refine y_iload_n 74 Y dX6_lowest_74 rfl ?_
          refine y_bipush 75 Y dX6_lowest_75 rfl ?_
          refine y_call 77 Y (as := [mi 14, mi 15, mi a1, mi 13]) [] dX6_lowest_77 rfl rfl rfl rfl rfl h (fun r S12 hq hI _ => ?_)
          obtain ⟨rfl, h⟩ := Qv_ok hq
          replace h := h hI
          clear hq
          refine y_aload_n 80 Y dX6_lowest_80 rfl ?_
          refine y_iload_n 81 Y dX6_lowest_81 rfl ?_
          refine y_bipush 82 Y dX6_lowest_82 rfl ?_
          refine y_call 84 Y (as := [mi a1, mi 14]) [] dX6_lowest_84 rfl rfl rfl rfl rfl h (fun r S13 hq hI _ => ?_)
          obtain ⟨rfl, h⟩ := Qv_ok hq
          replace h := h hI
          clear hq
          refine y_aload_n 87 Y dX6_lowest_87 rfl ?_
          refine y_bipush 88 Y dX6_lowest_88 rfl ?_
          refine y_bipush 90 Y dX6_lowest_90 rfl ?_
          refine y_iload_n 92 Y dX6_lowest_92 rfl ?_
          refine y_bipush 93 Y dX6_lowest_93 rfl ?_
          refine y_call 95 Y (as := [mi 14, mi 15, mi a2, mi 13]) [] dX6_lowest_95 rfl rfl rfl rfl rfl h (fun r S14 hq hI _ => ?_)
          obtain ⟨rfl, h⟩ := Qv_ok hq
          replace h := h hI
          clear hq
          refine y_aload_n 98 Y dX6_lowest_98 rfl ?_
          refine y_iload_n 99 Y dX6_lowest_99 rfl ?_
          refine y_bipush 100 Y dX6_lowest_100 rfl ?_
          refine y_call 102 Y (as := [mi a2, mi 14]) [] dX6_lowest_102 rfl rfl rfl rfl rfl h (fun r S15 hq hI _ => ?_)
          obtain ⟨rfl, h⟩ := Qv_ok hq
          replace h := h hI
          clear hq
          exact y_ret 105 Y dX6_lowest_105 rfl h
    · replace h := h.2 c
      refine y_aload_n 9 Y dX6_lowest_9 rfl ?_
      refine y_iload_n 10 Y dX6_lowest_10 rfl ?_
      refine y_iconst 11 Y dX6_lowest_11 rfl ?_
      refine y_call 12 Y (as := [mi a2, mi 1]) [] dX6_lowest_12 rfl rfl rfl rfl rfl h (fun r S16 hq hI _ => ?_)
      obtain ⟨rfl, h⟩ := Qv_ok hq
      replace h := h hI
      clear hq
      exact y_ret 15 Y dX6_lowest_15 rfl h
  · intro n pc L st T hi
    exact hi.elim
set_option maxHeartbeats 4000000 in
theorem of_makeWhole {g : mG} {S : mS} {a1 : Int} {Qp : Option mV → mS → Prop} (I9 : Nat → Int → Int → mS → Prop) (I93 : Nat → Int → Int → mS → Prop)
    (hE : mI S → (-2147483648 ≤ a1 ∧ a1 ≤ 2147483647) → CX_put g [mt, mi 8, mi 1] S (Qv fun S1 => mI S1 → (∃ n1, I9 n1 a1 0 S1)))
    (h9 : ∀ (n : Nat) (l1 l2 : Int) (T : mS), mI T → (-2147483648 ≤ l1 ∧ l1 ≤ 2147483647) → (-2147483648 ≤ l2 ∧ l2 ≤ 2147483647) → I9 n l1 l2 T → ((9 ≤ l2) → (∃ n1, n1 < n ∧ I93 n1 l1 0 T)) ∧ (¬ (9 ≤ l2) → CX_coefficientAt g [mi l1, mi l2] T (Qi fun v2 S1 => mI S1 → (-2147483648 ≤ v2 ∧ v2 ≤ 2147483647) → CX_loadDenominator g [mt, mi 2, mi v2] S1 (Qv fun S3 => mI S3 → CX_copy g [mt, mi 12, mi 8] S3 (Qv fun S4 => mI S4 → CX_copy g [mt, mi 13, mi 2] S4 (Qv fun S5 => mI S5 → CX_common g [mt, mi 12, mi 13] S5 (Qv fun S6 => mI S6 → CX_copy g [mt, mi 13, mi 12] S6 (Qv fun S7 => mI S7 → CX_divide g [mt, mi 14, mi 15, mi 8, mi 13] S7 (Qv fun S8 => mI S8 → CX_times g [mt, mi 10, mi 14, mi 2] S8 (Qv fun S9 => mI S9 → CX_copy g [mt, mi 8, mi 10] S9 (Qv fun S10 => mI S10 → (-2147483648 ≤ ((l2 + 1) : Int) ∧ (l2 + 1) ≤ 2147483647) ∧ (∃ n1, n1 < n ∧ I9 n1 l1 (l2 + 1) S10))))))))))))
    (h93 : ∀ (n : Nat) (l1 l2 : Int) (T : mS), mI T → (-2147483648 ≤ l1 ∧ l1 ≤ 2147483647) → (-2147483648 ≤ l2 ∧ l2 ≤ 2147483647) → I93 n l1 l2 T → ((9 ≤ l2) → Qp none T) ∧ (¬ (9 ≤ l2) → CX_coefficientAt g [mi l1, mi l2] T (Qi fun v2 S1 => mI S1 → (-2147483648 ≤ v2 ∧ v2 ≤ 2147483647) → CX_loadNumerator g [mt, mi 2, mi v2] S1 (Qv fun S3 => mI S3 → CX_coefficientAt g [mi l1, mi l2] S3 (Qi fun v5 S4 => mI S4 → (-2147483648 ≤ v5 ∧ v5 ≤ 2147483647) → CX_loadDenominator g [mt, mi 3, mi v5] S4 (Qv fun S6 => mI S6 → CX_divide g [mt, mi 14, mi 15, mi 8, mi 3] S6 (Qv fun S7 => mI S7 → CX_times g [mt, mi 10, mi 2, mi 14] S7 (Qv fun S8 => mI S8 → (-2147483648 ≤ ((0 + l2) : Int) ∧ (0 + l2) ≤ 2147483647) ∧ CX_coefficientAt g [mi l1, mi l2] S8 (Qi fun v11 S10 => mI S10 → (-2147483648 ≤ v11 ∧ v11 ≤ 2147483647) → CX_sign_2 g [mt, mi v11] S10 (Qi fun v13 S12 => mI S12 → (-2147483648 ≤ v13 ∧ v13 ≤ 2147483647) → CX_keepWhole g [mt, mi (0 + l2), mi 10, mi v13] S12 (Qv fun S14 => mI S14 → (-2147483648 ≤ ((l2 + 1) : Int) ∧ (l2 + 1) ≤ 2147483647) ∧ (∃ n1, n1 < n ∧ I93 n1 l1 (l2 + 1) S14))))))))))))
    : CX_makeWhole g [mt, mi a1] S Qp := by
  refine cm_y ⟨by decide, rfl⟩ (by simp [mcat]) (by simp) (fun n pc L st S => (pc = 9 ∧ ∃ (l1 : Int) (l2 : Int), L = [some mt, some (mi l1), some (mi l2)] ∧ st = [] ∧ I9 n l1 l2 S) ∨ (pc = 93 ∧ ∃ (l1 : Int) (l2 : Int), L = [some mt, some (mi l1), some (mi l2)] ∧ st = [] ∧ I93 n l1 l2 S)) ?_ ?_
  · intro ha hS P Y Wk hIc
    have h := hE hS (mokI (ha (mi a1) (by simp)))
    clear hE ha h9 h93
    refine y_aload_n 0 Y dX6_makeWhole_0 rfl ?_
    refine y_bipush 1 Y dX6_makeWhole_1 rfl ?_
    refine y_iconst 3 Y dX6_makeWhole_3 rfl ?_
    refine y_call 4 Y (as := [mi 8, mi 1]) [] dX6_makeWhole_4 rfl rfl rfl rfl rfl h (fun r S1 hq hI _ => ?_)
    obtain ⟨rfl, h⟩ := Qv_ok hq
    replace h := h hI
    clear hq
    refine y_iconst 7 Y dX6_makeWhole_7 rfl ?_
    refine y_istore_n 8 Y [some mt, some (mi a1), some (mi 0)] dX6_makeWhole_8 rfl rfl ?_
    obtain ⟨n1, h⟩ := h
    exact Wk 9 _ [some mt, some (mi a1), some (mi 0)] _ _ ⟨rfl, ⟨rfl, ⟨rfl, trivial⟩⟩⟩ (hIc n1 _ _ _ _ (Or.inl (⟨rfl, _, _, rfl, rfl, h⟩)))
  · intro n pc L st T hi hS hL P Y Wk hIc
    clear hE
    rcases hi with ⟨rfl, l1, l2, rfl, rfl, hi⟩ | ⟨rfl, l1, l2, rfl, rfl, hi⟩
    · have h := h9 n l1 l2 T hS (hL 1 _ rfl) (hL 2 _ rfl) hi
      clear hL hi h9 h93
      refine y_iload_n 9 Y dX6_makeWhole_9 rfl ?_
      refine y_bipush 10 Y dX6_makeWhole_10 rfl ?_
      refine y_icmp 12 91 Y dX6_makeWhole_12 rfl rfl (fun c => ?_) (fun c => ?_)
      · replace h := h.1 c
        refine y_iconst 91 Y dX6_makeWhole_91 rfl ?_
        refine y_istore_n 92 Y [some mt, some (mi l1), some (mi 0)] dX6_makeWhole_92 rfl rfl ?_
        obtain ⟨n1, hn, h⟩ := h
        exact Wk 93 _ [some mt, some (mi l1), some (mi 0)] _ _ ⟨rfl, ⟨rfl, ⟨rfl, trivial⟩⟩⟩ (hIc n1 _ _ _ _ hn (Or.inr ((⟨rfl, _, _, rfl, rfl, h⟩))))
      · replace h := h.2 c
        refine y_aload_n 15 Y dX6_makeWhole_15 rfl ?_
        refine y_iconst 16 Y dX6_makeWhole_16 rfl ?_
        refine y_iload_n 17 Y dX6_makeWhole_17 rfl ?_
        refine y_iload_n 18 Y dX6_makeWhole_18 rfl ?_
        refine y_calls 19 Y (as := [mi l1, mi l2]) [mi 2, mt] dX6_makeWhole_19 rfl rfl rfl rfl rfl h (fun r S1 hq hI hr => ?_)
        obtain ⟨v2, rfl, h⟩ := Qi_ok hq
        replace h := h hI (mokI (hr _ rfl))
        clear hq hr
        refine y_call 22 Y (as := [mi 2, mi v2]) [] dX6_makeWhole_22 rfl rfl rfl rfl rfl h (fun r S3 hq hI _ => ?_)
        obtain ⟨rfl, h⟩ := Qv_ok hq
        replace h := h hI
        clear hq
        refine y_aload_n 25 Y dX6_makeWhole_25 rfl ?_
        refine y_bipush 26 Y dX6_makeWhole_26 rfl ?_
        refine y_bipush 28 Y dX6_makeWhole_28 rfl ?_
        refine y_call 30 Y (as := [mi 12, mi 8]) [] dX6_makeWhole_30 rfl rfl rfl rfl rfl h (fun r S4 hq hI _ => ?_)
        obtain ⟨rfl, h⟩ := Qv_ok hq
        replace h := h hI
        clear hq
        refine y_aload_n 33 Y dX6_makeWhole_33 rfl ?_
        refine y_bipush 34 Y dX6_makeWhole_34 rfl ?_
        refine y_iconst 36 Y dX6_makeWhole_36 rfl ?_
        refine y_call 37 Y (as := [mi 13, mi 2]) [] dX6_makeWhole_37 rfl rfl rfl rfl rfl h (fun r S5 hq hI _ => ?_)
        obtain ⟨rfl, h⟩ := Qv_ok hq
        replace h := h hI
        clear hq
        refine y_aload_n 40 Y dX6_makeWhole_40 rfl ?_
        refine y_bipush 41 Y dX6_makeWhole_41 rfl ?_
        refine y_bipush 43 Y dX6_makeWhole_43 rfl ?_
        refine y_call 45 Y (as := [mi 12, mi 13]) [] dX6_makeWhole_45 rfl rfl rfl rfl rfl h (fun r S6 hq hI _ => ?_)
        obtain ⟨rfl, h⟩ := Qv_ok hq
        replace h := h hI
        clear hq
        refine y_aload_n 48 Y dX6_makeWhole_48 rfl ?_
        refine y_bipush 49 Y dX6_makeWhole_49 rfl ?_
        refine y_bipush 51 Y dX6_makeWhole_51 rfl ?_
        refine y_call 53 Y (as := [mi 13, mi 12]) [] dX6_makeWhole_53 rfl rfl rfl rfl rfl h (fun r S7 hq hI _ => ?_)
        obtain ⟨rfl, h⟩ := Qv_ok hq
        replace h := h hI
        clear hq
        refine y_aload_n 56 Y dX6_makeWhole_56 rfl ?_
        refine y_bipush 57 Y dX6_makeWhole_57 rfl ?_
        refine y_bipush 59 Y dX6_makeWhole_59 rfl ?_
        refine y_bipush 61 Y dX6_makeWhole_61 rfl ?_
        refine y_bipush 63 Y dX6_makeWhole_63 rfl ?_
        refine y_call 65 Y (as := [mi 14, mi 15, mi 8, mi 13]) [] dX6_makeWhole_65 rfl rfl rfl rfl rfl h (fun r S8 hq hI _ => ?_)
        obtain ⟨rfl, h⟩ := Qv_ok hq
        replace h := h hI
        clear hq
        refine y_aload_n 68 Y dX6_makeWhole_68 rfl ?_
        refine y_bipush 69 Y dX6_makeWhole_69 rfl ?_
        refine y_bipush 71 Y dX6_makeWhole_71 rfl ?_
        refine y_iconst 73 Y dX6_makeWhole_73 rfl ?_
        refine y_call 74 Y (as := [mi 10, mi 14, mi 2]) [] dX6_makeWhole_74 rfl rfl rfl rfl rfl h (fun r S9 hq hI _ => ?_)
        obtain ⟨rfl, h⟩ := Qv_ok hq
        replace h := h hI
        clear hq
        refine y_aload_n 77 Y dX6_makeWhole_77 rfl ?_
        refine y_bipush 78 Y dX6_makeWhole_78 rfl ?_
        refine y_bipush 80 Y dX6_makeWhole_80 rfl ?_
        refine y_call 82 Y (as := [mi 8, mi 10]) [] dX6_makeWhole_82 rfl rfl rfl rfl rfl h (fun r S10 hq hI _ => ?_)
        obtain ⟨rfl, h⟩ := Qv_ok hq
        replace h := h hI
        clear hq
        obtain ⟨o11, h⟩ := h
        refine y_iinc 85 Y [some mt, some (mi l1), some (mi (l2 + 1))] dX6_makeWhole_85 rfl rfl o11 ?_
        refine y_goto 88 9 Y dX6_makeWhole_88 rfl rfl ?_
        obtain ⟨n1, hn, h⟩ := h
        exact Wk 9 _ [some mt, some (mi l1), some (mi (l2 + 1))] _ _ ⟨rfl, ⟨rfl, ⟨rfl, trivial⟩⟩⟩ (hIc n1 _ _ _ _ hn (Or.inl (⟨rfl, _, _, rfl, rfl, h⟩)))
    · have h := h93 n l1 l2 T hS (hL 1 _ rfl) (hL 2 _ rfl) hi
      clear hL hi h9 h93
      refine y_iload_n 93 Y dX6_makeWhole_93 rfl ?_
      refine y_bipush 94 Y dX6_makeWhole_94 rfl ?_
      refine y_icmp 96 163 Y dX6_makeWhole_96 rfl rfl (fun c => ?_) (fun c => ?_)
      · replace h := h.1 c
        exact y_ret 163 Y dX6_makeWhole_163 rfl h
      · replace h := h.2 c
        refine y_aload_n 99 Y dX6_makeWhole_99 rfl ?_
        refine y_iconst 100 Y dX6_makeWhole_100 rfl ?_
        refine y_iload_n 101 Y dX6_makeWhole_101 rfl ?_
        refine y_iload_n 102 Y dX6_makeWhole_102 rfl ?_
        refine y_calls 103 Y (as := [mi l1, mi l2]) [mi 2, mt] dX6_makeWhole_103 rfl rfl rfl rfl rfl h (fun r S1 hq hI hr => ?_)
        obtain ⟨v2, rfl, h⟩ := Qi_ok hq
        replace h := h hI (mokI (hr _ rfl))
        clear hq hr
        refine y_call 106 Y (as := [mi 2, mi v2]) [] dX6_makeWhole_106 rfl rfl rfl rfl rfl h (fun r S3 hq hI _ => ?_)
        obtain ⟨rfl, h⟩ := Qv_ok hq
        replace h := h hI
        clear hq
        refine y_aload_n 109 Y dX6_makeWhole_109 rfl ?_
        refine y_iconst 110 Y dX6_makeWhole_110 rfl ?_
        refine y_iload_n 111 Y dX6_makeWhole_111 rfl ?_
        refine y_iload_n 112 Y dX6_makeWhole_112 rfl ?_
        refine y_calls 113 Y (as := [mi l1, mi l2]) [mi 3, mt] dX6_makeWhole_113 rfl rfl rfl rfl rfl h (fun r S4 hq hI hr => ?_)
        obtain ⟨v5, rfl, h⟩ := Qi_ok hq
        replace h := h hI (mokI (hr _ rfl))
        clear hq hr
        refine y_call 116 Y (as := [mi 3, mi v5]) [] dX6_makeWhole_116 rfl rfl rfl rfl rfl h (fun r S6 hq hI _ => ?_)
        obtain ⟨rfl, h⟩ := Qv_ok hq
        replace h := h hI
        clear hq
        refine y_aload_n 119 Y dX6_makeWhole_119 rfl ?_
        refine y_bipush 120 Y dX6_makeWhole_120 rfl ?_
        refine y_bipush 122 Y dX6_makeWhole_122 rfl ?_
        refine y_bipush 124 Y dX6_makeWhole_124 rfl ?_
        refine y_iconst 126 Y dX6_makeWhole_126 rfl ?_
        refine y_call 127 Y (as := [mi 14, mi 15, mi 8, mi 3]) [] dX6_makeWhole_127 rfl rfl rfl rfl rfl h (fun r S7 hq hI _ => ?_)
        obtain ⟨rfl, h⟩ := Qv_ok hq
        replace h := h hI
        clear hq
        refine y_aload_n 130 Y dX6_makeWhole_130 rfl ?_
        refine y_bipush 131 Y dX6_makeWhole_131 rfl ?_
        refine y_iconst 133 Y dX6_makeWhole_133 rfl ?_
        refine y_bipush 134 Y dX6_makeWhole_134 rfl ?_
        refine y_call 136 Y (as := [mi 10, mi 2, mi 14]) [] dX6_makeWhole_136 rfl rfl rfl rfl rfl h (fun r S8 hq hI _ => ?_)
        obtain ⟨rfl, h⟩ := Qv_ok hq
        replace h := h hI
        clear hq
        refine y_aload_n 139 Y dX6_makeWhole_139 rfl ?_
        refine y_iconst 140 Y dX6_makeWhole_140 rfl ?_
        refine y_iload_n 141 Y dX6_makeWhole_141 rfl ?_
        obtain ⟨o9, h⟩ := h
        refine y_iadd 142 Y dX6_makeWhole_142 o9 ?_
        refine y_bipush 143 Y dX6_makeWhole_143 rfl ?_
        refine y_aload_n 145 Y dX6_makeWhole_145 rfl ?_
        refine y_iload_n 146 Y dX6_makeWhole_146 rfl ?_
        refine y_iload_n 147 Y dX6_makeWhole_147 rfl ?_
        refine y_calls 148 Y (as := [mi l1, mi l2]) [mt, mi 10, mi (0 + l2), mt] dX6_makeWhole_148 rfl rfl rfl rfl rfl h (fun r S10 hq hI hr => ?_)
        obtain ⟨v11, rfl, h⟩ := Qi_ok hq
        replace h := h hI (mokI (hr _ rfl))
        clear hq hr
        refine y_call 151 Y (as := [mi v11]) [mi 10, mi (0 + l2), mt] dX6_makeWhole_151 rfl rfl rfl rfl rfl h (fun r S12 hq hI hr => ?_)
        obtain ⟨v13, rfl, h⟩ := Qi_ok hq
        replace h := h hI (mokI (hr _ rfl))
        clear hq hr
        refine y_call 154 Y (as := [mi (0 + l2), mi 10, mi v13]) [] dX6_makeWhole_154 rfl rfl rfl rfl rfl h (fun r S14 hq hI _ => ?_)
        obtain ⟨rfl, h⟩ := Qv_ok hq
        replace h := h hI
        clear hq
        obtain ⟨o15, h⟩ := h
        refine y_iinc 157 Y [some mt, some (mi l1), some (mi (l2 + 1))] dX6_makeWhole_157 rfl rfl o15 ?_
        refine y_goto 160 93 Y dX6_makeWhole_160 rfl rfl ?_
        obtain ⟨n1, hn, h⟩ := h
        exact Wk 93 _ [some mt, some (mi l1), some (mi (l2 + 1))] _ _ ⟨rfl, ⟨rfl, ⟨rfl, trivial⟩⟩⟩ (hIc n1 _ _ _ _ hn (Or.inr ((⟨rfl, _, _, rfl, rfl, h⟩))))
set_option maxHeartbeats 4000000 in
theorem of_node_2 {g : mG} {S : mS} {a1 a2 a3 : Int} {Qp : Option mV → mS → Prop}
    (hE : mI S → (-2147483648 ≤ a1 ∧ a1 ≤ 2147483647) → (-2147483648 ≤ a2 ∧ a2 ≤ 2147483647) → (-2147483648 ≤ a3 ∧ a3 ≤ 2147483647) → CX_isNode g [mt, mi a1, mi a2] S (Qi fun v2 S1 => mI S1 → (-2147483648 ≤ v2 ∧ v2 ≤ 2147483647) → ((v2 ≠ 0) → CX_in g [mi a3, mi 0, mi 5] S1 (Qi fun v4 S3 => mI S3 → (-2147483648 ≤ v4 ∧ v4 ≤ 2147483647) → ((v4 ≠ 0) → CX_refused g [mt, mi 0, mi 0, mi 0] S3 (Qi fun v6 S5 => mI S5 → (-2147483648 ≤ v6 ∧ v6 ≤ 2147483647) → ((v6 = 0) → CX_shelf g [mi a1] S5 (Qi fun v8 S7 => mI S7 → (-2147483648 ≤ v8 ∧ v8 ≤ 2147483647) → (-2147483648 ≤ ((v8 + a2) : Int) ∧ (v8 + a2) ≤ 2147483647) ∧ (a3 = 0 → (0 ≤ (v8 + a2)) ∧ ((v8 + a2) < 20300) ∧ Qp (some (mi (S7 4 (v8 + a2)))) S7) ∧ (a3 = 1 → (0 ≤ (v8 + a2)) ∧ ((v8 + a2) < 20300) ∧ Qp (some (mi (S7 5 (v8 + a2)))) S7) ∧ (a3 = 2 → (0 ≤ (v8 + a2)) ∧ ((v8 + a2) < 20300) ∧ Qp (some (mi (S7 6 (v8 + a2)))) S7) ∧ (a3 = 3 → (0 ≤ (v8 + a2)) ∧ ((v8 + a2) < 20300) ∧ Qp (some (mi (S7 7 (v8 + a2)))) S7) ∧ (a3 = 4 → CX_shelf g [mi a1] S7 (Qi fun v19 S18 => mI S18 → (-2147483648 ≤ v19 ∧ v19 ≤ 2147483647) → CX_parentOf g [mt, mi v19, mi (v8 + a2)] S18 (Qi fun v21 S20 => mI S20 → (-2147483648 ≤ v21 ∧ v21 ≤ 2147483647) → Qp (some (mi v21)) S20))) ∧ (a3 < 0 ∨ 4 < a3 → (0 ≤ (v8 + a2)) ∧ ((v8 + a2) < 20300) ∧ Qp (some (mi (S7 8 (v8 + a2)))) S7))) ∧ (¬ (v6 = 0) → Qp (some (mi 0)) S5))) ∧ (¬ (v4 ≠ 0) → CX_refused g [mt, mi 0, mi 1, mi 0] S3 (Qi fun v25 S24 => mI S24 → (-2147483648 ≤ v25 ∧ v25 ≤ 2147483647) → ((v25 = 0) → CX_shelf g [mi a1] S24 (Qi fun v27 S26 => mI S26 → (-2147483648 ≤ v27 ∧ v27 ≤ 2147483647) → (-2147483648 ≤ ((v27 + a2) : Int) ∧ (v27 + a2) ≤ 2147483647) ∧ (a3 = 0 → (0 ≤ (v27 + a2)) ∧ ((v27 + a2) < 20300) ∧ Qp (some (mi (S26 4 (v27 + a2)))) S26) ∧ (a3 = 1 → (0 ≤ (v27 + a2)) ∧ ((v27 + a2) < 20300) ∧ Qp (some (mi (S26 5 (v27 + a2)))) S26) ∧ (a3 = 2 → (0 ≤ (v27 + a2)) ∧ ((v27 + a2) < 20300) ∧ Qp (some (mi (S26 6 (v27 + a2)))) S26) ∧ (a3 = 3 → (0 ≤ (v27 + a2)) ∧ ((v27 + a2) < 20300) ∧ Qp (some (mi (S26 7 (v27 + a2)))) S26) ∧ (a3 = 4 → CX_shelf g [mi a1] S26 (Qi fun v38 S37 => mI S37 → (-2147483648 ≤ v38 ∧ v38 ≤ 2147483647) → CX_parentOf g [mt, mi v38, mi (v27 + a2)] S37 (Qi fun v40 S39 => mI S39 → (-2147483648 ≤ v40 ∧ v40 ≤ 2147483647) → Qp (some (mi v40)) S39))) ∧ (a3 < 0 ∨ 4 < a3 → (0 ≤ (v27 + a2)) ∧ ((v27 + a2) < 20300) ∧ Qp (some (mi (S26 8 (v27 + a2)))) S26))) ∧ (¬ (v25 = 0) → Qp (some (mi 0)) S24))))) ∧ (¬ (v2 ≠ 0) → CX_in g [mi a3, mi 0, mi 5] S1 (Qi fun v44 S43 => mI S43 → (-2147483648 ≤ v44 ∧ v44 ≤ 2147483647) → ((v44 ≠ 0) → CX_refused g [mt, mi 1, mi 0, mi 0] S43 (Qi fun v46 S45 => mI S45 → (-2147483648 ≤ v46 ∧ v46 ≤ 2147483647) → ((v46 = 0) → CX_shelf g [mi a1] S45 (Qi fun v48 S47 => mI S47 → (-2147483648 ≤ v48 ∧ v48 ≤ 2147483647) → (-2147483648 ≤ ((v48 + a2) : Int) ∧ (v48 + a2) ≤ 2147483647) ∧ (a3 = 0 → (0 ≤ (v48 + a2)) ∧ ((v48 + a2) < 20300) ∧ Qp (some (mi (S47 4 (v48 + a2)))) S47) ∧ (a3 = 1 → (0 ≤ (v48 + a2)) ∧ ((v48 + a2) < 20300) ∧ Qp (some (mi (S47 5 (v48 + a2)))) S47) ∧ (a3 = 2 → (0 ≤ (v48 + a2)) ∧ ((v48 + a2) < 20300) ∧ Qp (some (mi (S47 6 (v48 + a2)))) S47) ∧ (a3 = 3 → (0 ≤ (v48 + a2)) ∧ ((v48 + a2) < 20300) ∧ Qp (some (mi (S47 7 (v48 + a2)))) S47) ∧ (a3 = 4 → CX_shelf g [mi a1] S47 (Qi fun v59 S58 => mI S58 → (-2147483648 ≤ v59 ∧ v59 ≤ 2147483647) → CX_parentOf g [mt, mi v59, mi (v48 + a2)] S58 (Qi fun v61 S60 => mI S60 → (-2147483648 ≤ v61 ∧ v61 ≤ 2147483647) → Qp (some (mi v61)) S60))) ∧ (a3 < 0 ∨ 4 < a3 → (0 ≤ (v48 + a2)) ∧ ((v48 + a2) < 20300) ∧ Qp (some (mi (S47 8 (v48 + a2)))) S47))) ∧ (¬ (v46 = 0) → Qp (some (mi 0)) S45))) ∧ (¬ (v44 ≠ 0) → CX_refused g [mt, mi 1, mi 1, mi 0] S43 (Qi fun v65 S64 => mI S64 → (-2147483648 ≤ v65 ∧ v65 ≤ 2147483647) → ((v65 = 0) → CX_shelf g [mi a1] S64 (Qi fun v67 S66 => mI S66 → (-2147483648 ≤ v67 ∧ v67 ≤ 2147483647) → (-2147483648 ≤ ((v67 + a2) : Int) ∧ (v67 + a2) ≤ 2147483647) ∧ (a3 = 0 → (0 ≤ (v67 + a2)) ∧ ((v67 + a2) < 20300) ∧ Qp (some (mi (S66 4 (v67 + a2)))) S66) ∧ (a3 = 1 → (0 ≤ (v67 + a2)) ∧ ((v67 + a2) < 20300) ∧ Qp (some (mi (S66 5 (v67 + a2)))) S66) ∧ (a3 = 2 → (0 ≤ (v67 + a2)) ∧ ((v67 + a2) < 20300) ∧ Qp (some (mi (S66 6 (v67 + a2)))) S66) ∧ (a3 = 3 → (0 ≤ (v67 + a2)) ∧ ((v67 + a2) < 20300) ∧ Qp (some (mi (S66 7 (v67 + a2)))) S66) ∧ (a3 = 4 → CX_shelf g [mi a1] S66 (Qi fun v78 S77 => mI S77 → (-2147483648 ≤ v78 ∧ v78 ≤ 2147483647) → CX_parentOf g [mt, mi v78, mi (v67 + a2)] S77 (Qi fun v80 S79 => mI S79 → (-2147483648 ≤ v80 ∧ v80 ≤ 2147483647) → Qp (some (mi v80)) S79))) ∧ (a3 < 0 ∨ 4 < a3 → (0 ≤ (v67 + a2)) ∧ ((v67 + a2) < 20300) ∧ Qp (some (mi (S66 8 (v67 + a2)))) S66))) ∧ (¬ (v65 = 0) → Qp (some (mi 0)) S64)))))))
    : CX_node_2 g [mt, mi a1, mi a2, mi a3] S Qp := by
  refine cm_y ⟨by decide, rfl⟩ (by simp [mcat]) (by simp) (fun _ _ _ _ _ => False) ?_ ?_
  · intro ha hS P Y Wk hIc
    have h := hE hS (mokI (ha (mi a1) (by simp))) (mokI (ha (mi a2) (by simp))) (mokI (ha (mi a3) (by simp)))
    clear hE ha
    refine y_aload_n 0 Y dX6_node_2_0 rfl ?_
    refine y_aload_n 1 Y dX6_node_2_1 rfl ?_
    refine y_iload_n 2 Y dX6_node_2_2 rfl ?_
    refine y_iload_n 3 Y dX6_node_2_3 rfl ?_
    refine y_call 4 Y (as := [mi a1, mi a2]) [mt] dX6_node_2_4 rfl rfl rfl rfl rfl h (fun r S1 hq hI hr => ?_)
    obtain ⟨v2, rfl, h⟩ := Qi_ok hq
    replace h := h hI (mokI (hr _ rfl))
    clear hq hr
    refine y_if 7 14 Y dX6_node_2_7 rfl rfl (fun c => ?_) (fun c => ?_)
    · replace h := h.1 c
      refine y_iconst 14 Y dX6_node_2_14 rfl ?_
      refine y_iload_n 15 Y dX6_node_2_15 rfl ?_
      refine y_iconst 16 Y dX6_node_2_16 rfl ?_
      refine y_iconst 17 Y dX6_node_2_17 rfl ?_
      refine y_calls 18 Y (as := [mi a3, mi 0, mi 5]) [mi 0, mt] dX6_node_2_18 rfl rfl rfl rfl rfl h (fun r S3 hq hI hr => ?_)
      obtain ⟨v4, rfl, h⟩ := Qi_ok hq
      replace h := h hI (mokI (hr _ rfl))
      clear hq hr
      refine y_if 21 28 Y dX6_node_2_21 rfl rfl (fun c => ?_) (fun c => ?_)
      · replace h := h.1 c
        refine y_iconst 28 Y dX6_node_2_28 rfl ?_
        refine y_iconst 29 Y dX6_node_2_29 rfl ?_
        refine y_call 30 Y (as := [mi 0, mi 0, mi 0]) [] dX6_node_2_30 rfl rfl rfl rfl rfl h (fun r S5 hq hI hr => ?_)
        obtain ⟨v6, rfl, h⟩ := Qi_ok hq
        replace h := h hI (mokI (hr _ rfl))
        clear hq hr
        refine y_if 33 38 Y dX6_node_2_33 rfl rfl (fun c => ?_) (fun c => ?_)
        · replace h := h.1 c
          refine y_iload_n 38 Y dX6_node_2_38 rfl ?_
          refine y_calls 39 Y (as := [mi a1]) [] dX6_node_2_39 rfl rfl rfl rfl rfl h (fun r S7 hq hI hr => ?_)
          obtain ⟨v8, rfl, h⟩ := Qi_ok hq
          replace h := h hI (mokI (hr _ rfl))
          clear hq hr
          refine y_iload_n 42 Y dX6_node_2_42 rfl ?_
          obtain ⟨o9, h⟩ := h
          refine y_iadd 43 Y dX6_node_2_43 o9 ?_
          refine y_istore 44 Y [some mt, some (mi a1), some (mi a2), some (mi a3), some (mi (v8 + a2))] dX6_node_2_44 rfl rfl ?_
          refine y_iload_n 46 Y dX6_node_2_46 rfl ?_
          refine y_table 47 Y dX6_node_2_47 rfl (And.intro (fun c => ?_) (And.intro (fun c => ?_) (And.intro (fun c => ?_) (And.intro (fun c => ?_) (And.intro (fun c => ?_) trivial))))) (fun c => ?_)
          · replace h := h.1 c
            refine y_aload_n 80 Y dX6_node_2_80 rfl ?_
            refine y_geta 81 Y 4 dX6_node_2_81 rfl rfl ?_
            refine y_iload 84 Y dX6_node_2_84 rfl ?_
            obtain ⟨o10, h⟩ := h
            obtain ⟨o11, h⟩ := h
            refine y_iald 86 Y dX6_node_2_86 rfl rfl o10 o11 (fun _ => ?_)
            exact y_iret 87 Y dX6_node_2_87 rfl h
          · replace h := h.2.1 c
            refine y_aload_n 88 Y dX6_node_2_88 rfl ?_
            refine y_geta 89 Y 5 dX6_node_2_89 rfl rfl ?_
            refine y_iload 92 Y dX6_node_2_92 rfl ?_
            obtain ⟨o12, h⟩ := h
            obtain ⟨o13, h⟩ := h
            refine y_iald 94 Y dX6_node_2_94 rfl rfl o12 o13 (fun _ => ?_)
            exact y_iret 95 Y dX6_node_2_95 rfl h
          · replace h := h.2.2.1 c
            refine y_aload_n 96 Y dX6_node_2_96 rfl ?_
            refine y_geta 97 Y 6 dX6_node_2_97 rfl rfl ?_
            refine y_iload 100 Y dX6_node_2_100 rfl ?_
            obtain ⟨o14, h⟩ := h
            obtain ⟨o15, h⟩ := h
            refine y_iald 102 Y dX6_node_2_102 rfl rfl o14 o15 (fun _ => ?_)
            exact y_iret 103 Y dX6_node_2_103 rfl h
          · replace h := h.2.2.2.1 c
            refine y_aload_n 104 Y dX6_node_2_104 rfl ?_
            refine y_geta 105 Y 7 dX6_node_2_105 rfl rfl ?_
            refine y_iload 108 Y dX6_node_2_108 rfl ?_
            obtain ⟨o16, h⟩ := h
            obtain ⟨o17, h⟩ := h
            refine y_iald 110 Y dX6_node_2_110 rfl rfl o16 o17 (fun _ => ?_)
            exact y_iret 111 Y dX6_node_2_111 rfl h
          · replace h := h.2.2.2.2.1 c
            refine y_aload_n 112 Y dX6_node_2_112 rfl ?_
            refine y_iload_n 113 Y dX6_node_2_113 rfl ?_
            refine y_calls 114 Y (as := [mi a1]) [mt] dX6_node_2_114 rfl rfl rfl rfl rfl h (fun r S18 hq hI hr => ?_)
            obtain ⟨v19, rfl, h⟩ := Qi_ok hq
            replace h := h hI (mokI (hr _ rfl))
            clear hq hr
            refine y_iload 117 Y dX6_node_2_117 rfl ?_
            refine y_call 119 Y (as := [mi v19, mi (v8 + a2)]) [] dX6_node_2_119 rfl rfl rfl rfl rfl h (fun r S20 hq hI hr => ?_)
            obtain ⟨v21, rfl, h⟩ := Qi_ok hq
            replace h := h hI (mokI (hr _ rfl))
            clear hq hr
            exact y_iret 122 Y dX6_node_2_122 rfl h
          · replace h := h.2.2.2.2.2 c
            refine y_aload_n 123 Y dX6_node_2_123 rfl ?_
            refine y_geta 124 Y 8 dX6_node_2_124 rfl rfl ?_
            refine y_iload 127 Y dX6_node_2_127 rfl ?_
            obtain ⟨o22, h⟩ := h
            obtain ⟨o23, h⟩ := h
            refine y_iald 129 Y dX6_node_2_129 rfl rfl o22 o23 (fun _ => ?_)
            exact y_iret 130 Y dX6_node_2_130 rfl h
        · replace h := h.2 c
          refine y_iconst 36 Y dX6_node_2_36 rfl ?_
          exact y_iret 37 Y dX6_node_2_37 rfl h
      · replace h := h.2 c
        refine y_iconst 24 Y dX6_node_2_24 rfl ?_
        refine y_goto 25 29 Y dX6_node_2_25 rfl rfl ?_
        refine y_iconst 29 Y dX6_node_2_29 rfl ?_
        refine y_call 30 Y (as := [mi 0, mi 1, mi 0]) [] dX6_node_2_30 rfl rfl rfl rfl rfl h (fun r S24 hq hI hr => ?_)
        obtain ⟨v25, rfl, h⟩ := Qi_ok hq
        replace h := h hI (mokI (hr _ rfl))
        clear hq hr
        refine y_if 33 38 Y dX6_node_2_33 rfl rfl (fun c => ?_) (fun c => ?_)
        · replace h := h.1 c
          refine y_iload_n 38 Y dX6_node_2_38 rfl ?_
          refine y_calls 39 Y (as := [mi a1]) [] dX6_node_2_39 rfl rfl rfl rfl rfl h (fun r S26 hq hI hr => ?_)
          obtain ⟨v27, rfl, h⟩ := Qi_ok hq
          replace h := h hI (mokI (hr _ rfl))
          clear hq hr
          refine y_iload_n 42 Y dX6_node_2_42 rfl ?_
          obtain ⟨o28, h⟩ := h
          refine y_iadd 43 Y dX6_node_2_43 o28 ?_
          refine y_istore 44 Y [some mt, some (mi a1), some (mi a2), some (mi a3), some (mi (v27 + a2))] dX6_node_2_44 rfl rfl ?_
          refine y_iload_n 46 Y dX6_node_2_46 rfl ?_
          refine y_table 47 Y dX6_node_2_47 rfl (And.intro (fun c => ?_) (And.intro (fun c => ?_) (And.intro (fun c => ?_) (And.intro (fun c => ?_) (And.intro (fun c => ?_) trivial))))) (fun c => ?_)
          · replace h := h.1 c
            refine y_aload_n 80 Y dX6_node_2_80 rfl ?_
            refine y_geta 81 Y 4 dX6_node_2_81 rfl rfl ?_
            refine y_iload 84 Y dX6_node_2_84 rfl ?_
            obtain ⟨o29, h⟩ := h
            obtain ⟨o30, h⟩ := h
            refine y_iald 86 Y dX6_node_2_86 rfl rfl o29 o30 (fun _ => ?_)
            exact y_iret 87 Y dX6_node_2_87 rfl h
          · replace h := h.2.1 c
            refine y_aload_n 88 Y dX6_node_2_88 rfl ?_
            refine y_geta 89 Y 5 dX6_node_2_89 rfl rfl ?_
            refine y_iload 92 Y dX6_node_2_92 rfl ?_
            obtain ⟨o31, h⟩ := h
            obtain ⟨o32, h⟩ := h
            refine y_iald 94 Y dX6_node_2_94 rfl rfl o31 o32 (fun _ => ?_)
            exact y_iret 95 Y dX6_node_2_95 rfl h
          · replace h := h.2.2.1 c
            refine y_aload_n 96 Y dX6_node_2_96 rfl ?_
            refine y_geta 97 Y 6 dX6_node_2_97 rfl rfl ?_
            refine y_iload 100 Y dX6_node_2_100 rfl ?_
            obtain ⟨o33, h⟩ := h
            obtain ⟨o34, h⟩ := h
            refine y_iald 102 Y dX6_node_2_102 rfl rfl o33 o34 (fun _ => ?_)
            exact y_iret 103 Y dX6_node_2_103 rfl h
          · replace h := h.2.2.2.1 c
            refine y_aload_n 104 Y dX6_node_2_104 rfl ?_
            refine y_geta 105 Y 7 dX6_node_2_105 rfl rfl ?_
            refine y_iload 108 Y dX6_node_2_108 rfl ?_
            obtain ⟨o35, h⟩ := h
            obtain ⟨o36, h⟩ := h
            refine y_iald 110 Y dX6_node_2_110 rfl rfl o35 o36 (fun _ => ?_)
            exact y_iret 111 Y dX6_node_2_111 rfl h
          · replace h := h.2.2.2.2.1 c
            refine y_aload_n 112 Y dX6_node_2_112 rfl ?_
            refine y_iload_n 113 Y dX6_node_2_113 rfl ?_
            refine y_calls 114 Y (as := [mi a1]) [mt] dX6_node_2_114 rfl rfl rfl rfl rfl h (fun r S37 hq hI hr => ?_)
            obtain ⟨v38, rfl, h⟩ := Qi_ok hq
            replace h := h hI (mokI (hr _ rfl))
            clear hq hr
            refine y_iload 117 Y dX6_node_2_117 rfl ?_
            refine y_call 119 Y (as := [mi v38, mi (v27 + a2)]) [] dX6_node_2_119 rfl rfl rfl rfl rfl h (fun r S39 hq hI hr => ?_)
            obtain ⟨v40, rfl, h⟩ := Qi_ok hq
            replace h := h hI (mokI (hr _ rfl))
            clear hq hr
            exact y_iret 122 Y dX6_node_2_122 rfl h
          · replace h := h.2.2.2.2.2 c
            refine y_aload_n 123 Y dX6_node_2_123 rfl ?_
            refine y_geta 124 Y 8 dX6_node_2_124 rfl rfl ?_
            refine y_iload 127 Y dX6_node_2_127 rfl ?_
            obtain ⟨o41, h⟩ := h
            obtain ⟨o42, h⟩ := h
            refine y_iald 129 Y dX6_node_2_129 rfl rfl o41 o42 (fun _ => ?_)
            exact y_iret 130 Y dX6_node_2_130 rfl h
        · replace h := h.2 c
          refine y_iconst 36 Y dX6_node_2_36 rfl ?_
          exact y_iret 37 Y dX6_node_2_37 rfl h
    · replace h := h.2 c
      refine y_iconst 10 Y dX6_node_2_10 rfl ?_
      refine y_goto 11 15 Y dX6_node_2_11 rfl rfl ?_
      refine y_iload_n 15 Y dX6_node_2_15 rfl ?_
      refine y_iconst 16 Y dX6_node_2_16 rfl ?_
      refine y_iconst 17 Y dX6_node_2_17 rfl ?_
      refine y_calls 18 Y (as := [mi a3, mi 0, mi 5]) [mi 1, mt] dX6_node_2_18 rfl rfl rfl rfl rfl h (fun r S43 hq hI hr => ?_)
      obtain ⟨v44, rfl, h⟩ := Qi_ok hq
      replace h := h hI (mokI (hr _ rfl))
      clear hq hr
      refine y_if 21 28 Y dX6_node_2_21 rfl rfl (fun c => ?_) (fun c => ?_)
      · replace h := h.1 c
        refine y_iconst 28 Y dX6_node_2_28 rfl ?_
        refine y_iconst 29 Y dX6_node_2_29 rfl ?_
        refine y_call 30 Y (as := [mi 1, mi 0, mi 0]) [] dX6_node_2_30 rfl rfl rfl rfl rfl h (fun r S45 hq hI hr => ?_)
        obtain ⟨v46, rfl, h⟩ := Qi_ok hq
        replace h := h hI (mokI (hr _ rfl))
        clear hq hr
        refine y_if 33 38 Y dX6_node_2_33 rfl rfl (fun c => ?_) (fun c => ?_)
        · replace h := h.1 c
          refine y_iload_n 38 Y dX6_node_2_38 rfl ?_
          refine y_calls 39 Y (as := [mi a1]) [] dX6_node_2_39 rfl rfl rfl rfl rfl h (fun r S47 hq hI hr => ?_)
          obtain ⟨v48, rfl, h⟩ := Qi_ok hq
          replace h := h hI (mokI (hr _ rfl))
          clear hq hr
          refine y_iload_n 42 Y dX6_node_2_42 rfl ?_
          obtain ⟨o49, h⟩ := h
          refine y_iadd 43 Y dX6_node_2_43 o49 ?_
          refine y_istore 44 Y [some mt, some (mi a1), some (mi a2), some (mi a3), some (mi (v48 + a2))] dX6_node_2_44 rfl rfl ?_
          refine y_iload_n 46 Y dX6_node_2_46 rfl ?_
          refine y_table 47 Y dX6_node_2_47 rfl (And.intro (fun c => ?_) (And.intro (fun c => ?_) (And.intro (fun c => ?_) (And.intro (fun c => ?_) (And.intro (fun c => ?_) trivial))))) (fun c => ?_)
          · replace h := h.1 c
            refine y_aload_n 80 Y dX6_node_2_80 rfl ?_
            refine y_geta 81 Y 4 dX6_node_2_81 rfl rfl ?_
            refine y_iload 84 Y dX6_node_2_84 rfl ?_
            obtain ⟨o50, h⟩ := h
            obtain ⟨o51, h⟩ := h
            refine y_iald 86 Y dX6_node_2_86 rfl rfl o50 o51 (fun _ => ?_)
            exact y_iret 87 Y dX6_node_2_87 rfl h
          · replace h := h.2.1 c
            refine y_aload_n 88 Y dX6_node_2_88 rfl ?_
            refine y_geta 89 Y 5 dX6_node_2_89 rfl rfl ?_
            refine y_iload 92 Y dX6_node_2_92 rfl ?_
            obtain ⟨o52, h⟩ := h
            obtain ⟨o53, h⟩ := h
            refine y_iald 94 Y dX6_node_2_94 rfl rfl o52 o53 (fun _ => ?_)
            exact y_iret 95 Y dX6_node_2_95 rfl h
          · replace h := h.2.2.1 c
            refine y_aload_n 96 Y dX6_node_2_96 rfl ?_
            refine y_geta 97 Y 6 dX6_node_2_97 rfl rfl ?_
            refine y_iload 100 Y dX6_node_2_100 rfl ?_
            obtain ⟨o54, h⟩ := h
            obtain ⟨o55, h⟩ := h
            refine y_iald 102 Y dX6_node_2_102 rfl rfl o54 o55 (fun _ => ?_)
            exact y_iret 103 Y dX6_node_2_103 rfl h
          · replace h := h.2.2.2.1 c
            refine y_aload_n 104 Y dX6_node_2_104 rfl ?_
            refine y_geta 105 Y 7 dX6_node_2_105 rfl rfl ?_
            refine y_iload 108 Y dX6_node_2_108 rfl ?_
            obtain ⟨o56, h⟩ := h
            obtain ⟨o57, h⟩ := h
            refine y_iald 110 Y dX6_node_2_110 rfl rfl o56 o57 (fun _ => ?_)
            exact y_iret 111 Y dX6_node_2_111 rfl h
          · replace h := h.2.2.2.2.1 c
            refine y_aload_n 112 Y dX6_node_2_112 rfl ?_
            refine y_iload_n 113 Y dX6_node_2_113 rfl ?_
            refine y_calls 114 Y (as := [mi a1]) [mt] dX6_node_2_114 rfl rfl rfl rfl rfl h (fun r S58 hq hI hr => ?_)
            obtain ⟨v59, rfl, h⟩ := Qi_ok hq
            replace h := h hI (mokI (hr _ rfl))
            clear hq hr
            refine y_iload 117 Y dX6_node_2_117 rfl ?_
            refine y_call 119 Y (as := [mi v59, mi (v48 + a2)]) [] dX6_node_2_119 rfl rfl rfl rfl rfl h (fun r S60 hq hI hr => ?_)
            obtain ⟨v61, rfl, h⟩ := Qi_ok hq
            replace h := h hI (mokI (hr _ rfl))
            clear hq hr
            exact y_iret 122 Y dX6_node_2_122 rfl h
          · replace h := h.2.2.2.2.2 c
            refine y_aload_n 123 Y dX6_node_2_123 rfl ?_
            refine y_geta 124 Y 8 dX6_node_2_124 rfl rfl ?_
            refine y_iload 127 Y dX6_node_2_127 rfl ?_
            obtain ⟨o62, h⟩ := h
            obtain ⟨o63, h⟩ := h
            refine y_iald 129 Y dX6_node_2_129 rfl rfl o62 o63 (fun _ => ?_)
            exact y_iret 130 Y dX6_node_2_130 rfl h
        · replace h := h.2 c
          refine y_iconst 36 Y dX6_node_2_36 rfl ?_
          exact y_iret 37 Y dX6_node_2_37 rfl h
      · replace h := h.2 c
        refine y_iconst 24 Y dX6_node_2_24 rfl ?_
        refine y_goto 25 29 Y dX6_node_2_25 rfl rfl ?_
        refine y_iconst 29 Y dX6_node_2_29 rfl ?_
        refine y_call 30 Y (as := [mi 1, mi 1, mi 0]) [] dX6_node_2_30 rfl rfl rfl rfl rfl h (fun r S64 hq hI hr => ?_)
        obtain ⟨v65, rfl, h⟩ := Qi_ok hq
        replace h := h hI (mokI (hr _ rfl))
        clear hq hr
        refine y_if 33 38 Y dX6_node_2_33 rfl rfl (fun c => ?_) (fun c => ?_)
        · replace h := h.1 c
          refine y_iload_n 38 Y dX6_node_2_38 rfl ?_
          refine y_calls 39 Y (as := [mi a1]) [] dX6_node_2_39 rfl rfl rfl rfl rfl h (fun r S66 hq hI hr => ?_)
          obtain ⟨v67, rfl, h⟩ := Qi_ok hq
          replace h := h hI (mokI (hr _ rfl))
          clear hq hr
          refine y_iload_n 42 Y dX6_node_2_42 rfl ?_
          obtain ⟨o68, h⟩ := h
          refine y_iadd 43 Y dX6_node_2_43 o68 ?_
          refine y_istore 44 Y [some mt, some (mi a1), some (mi a2), some (mi a3), some (mi (v67 + a2))] dX6_node_2_44 rfl rfl ?_
          refine y_iload_n 46 Y dX6_node_2_46 rfl ?_
          refine y_table 47 Y dX6_node_2_47 rfl (And.intro (fun c => ?_) (And.intro (fun c => ?_) (And.intro (fun c => ?_) (And.intro (fun c => ?_) (And.intro (fun c => ?_) trivial))))) (fun c => ?_)
          · replace h := h.1 c
            refine y_aload_n 80 Y dX6_node_2_80 rfl ?_
            refine y_geta 81 Y 4 dX6_node_2_81 rfl rfl ?_
            refine y_iload 84 Y dX6_node_2_84 rfl ?_
            obtain ⟨o69, h⟩ := h
            obtain ⟨o70, h⟩ := h
            refine y_iald 86 Y dX6_node_2_86 rfl rfl o69 o70 (fun _ => ?_)
            exact y_iret 87 Y dX6_node_2_87 rfl h
          · replace h := h.2.1 c
            refine y_aload_n 88 Y dX6_node_2_88 rfl ?_
            refine y_geta 89 Y 5 dX6_node_2_89 rfl rfl ?_
            refine y_iload 92 Y dX6_node_2_92 rfl ?_
            obtain ⟨o71, h⟩ := h
            obtain ⟨o72, h⟩ := h
            refine y_iald 94 Y dX6_node_2_94 rfl rfl o71 o72 (fun _ => ?_)
            exact y_iret 95 Y dX6_node_2_95 rfl h
          · replace h := h.2.2.1 c
            refine y_aload_n 96 Y dX6_node_2_96 rfl ?_
            refine y_geta 97 Y 6 dX6_node_2_97 rfl rfl ?_
            refine y_iload 100 Y dX6_node_2_100 rfl ?_
            obtain ⟨o73, h⟩ := h
            obtain ⟨o74, h⟩ := h
            refine y_iald 102 Y dX6_node_2_102 rfl rfl o73 o74 (fun _ => ?_)
            exact y_iret 103 Y dX6_node_2_103 rfl h
          · replace h := h.2.2.2.1 c
            refine y_aload_n 104 Y dX6_node_2_104 rfl ?_
            refine y_geta 105 Y 7 dX6_node_2_105 rfl rfl ?_
            refine y_iload 108 Y dX6_node_2_108 rfl ?_
            obtain ⟨o75, h⟩ := h
            obtain ⟨o76, h⟩ := h
            refine y_iald 110 Y dX6_node_2_110 rfl rfl o75 o76 (fun _ => ?_)
            exact y_iret 111 Y dX6_node_2_111 rfl h
          · replace h := h.2.2.2.2.1 c
            refine y_aload_n 112 Y dX6_node_2_112 rfl ?_
            refine y_iload_n 113 Y dX6_node_2_113 rfl ?_
            refine y_calls 114 Y (as := [mi a1]) [mt] dX6_node_2_114 rfl rfl rfl rfl rfl h (fun r S77 hq hI hr => ?_)
            obtain ⟨v78, rfl, h⟩ := Qi_ok hq
            replace h := h hI (mokI (hr _ rfl))
            clear hq hr
            refine y_iload 117 Y dX6_node_2_117 rfl ?_
            refine y_call 119 Y (as := [mi v78, mi (v67 + a2)]) [] dX6_node_2_119 rfl rfl rfl rfl rfl h (fun r S79 hq hI hr => ?_)
            obtain ⟨v80, rfl, h⟩ := Qi_ok hq
            replace h := h hI (mokI (hr _ rfl))
            clear hq hr
            exact y_iret 122 Y dX6_node_2_122 rfl h
          · replace h := h.2.2.2.2.2 c
            refine y_aload_n 123 Y dX6_node_2_123 rfl ?_
            refine y_geta 124 Y 8 dX6_node_2_124 rfl rfl ?_
            refine y_iload 127 Y dX6_node_2_127 rfl ?_
            obtain ⟨o81, h⟩ := h
            obtain ⟨o82, h⟩ := h
            refine y_iald 129 Y dX6_node_2_129 rfl rfl o81 o82 (fun _ => ?_)
            exact y_iret 130 Y dX6_node_2_130 rfl h
        · replace h := h.2 c
          refine y_iconst 36 Y dX6_node_2_36 rfl ?_
          exact y_iret 37 Y dX6_node_2_37 rfl h
  · intro n pc L st T hi
    exact hi.elim
set_option maxHeartbeats 4000000 in
theorem of_part {g : mG} {S : mS} {a1 a2 : Int} {Qp : Option mV → mS → Prop}
    (hE : mI S → (-2147483648 ≤ a1 ∧ a1 ≤ 2147483647) → (-2147483648 ≤ a2 ∧ a2 ≤ 2147483647) → CX_isNode g [mt, mi a1, mi a2] S (Qi fun v2 S1 => mI S1 → (-2147483648 ≤ v2 ∧ v2 ≤ 2147483647) → ((v2 ≠ 0) → (((S1 10 0) ≠ 30) → CX_refused g [mt, mi 0, mi 0, mi 0] S1 (Qi fun v4 S3 => mI S3 → (-2147483648 ≤ v4 ∧ v4 ≤ 2147483647) → ((v4 = 0) → CX_shelf g [mi a1] S3 (Qi fun v6 S5 => mI S5 → (-2147483648 ≤ v6 ∧ v6 ≤ 2147483647) → (-2147483648 ≤ ((v6 + a2) : Int) ∧ (v6 + a2) ≤ 2147483647) ∧ CX_shelf g [mi a1] S5 (Qi fun v9 S8 => mI S8 → (-2147483648 ≤ v9 ∧ v9 ≤ 2147483647) → (-2147483648 ≤ ((v9 + a2) : Int) ∧ (v9 + a2) ≤ 2147483647) ∧ (0 ≤ (v9 + a2)) ∧ ((v9 + a2) < 20300) ∧ CX_shelve g [mt, mi (v6 + a2), mi (S8 8 (v9 + a2))] S8 (Qi fun v14 S13 => mI S13 → (-2147483648 ≤ v14 ∧ v14 ≤ 2147483647) → Qp (some (mi v14)) S13)))) ∧ (¬ (v4 = 0) → Qp (some (mi 0)) S3))) ∧ (¬ ((S1 10 0) ≠ 30) → CX_refused g [mt, mi 0, mi 1, mi 0] S1 (Qi fun v16 S15 => mI S15 → (-2147483648 ≤ v16 ∧ v16 ≤ 2147483647) → ((v16 = 0) → CX_shelf g [mi a1] S15 (Qi fun v18 S17 => mI S17 → (-2147483648 ≤ v18 ∧ v18 ≤ 2147483647) → (-2147483648 ≤ ((v18 + a2) : Int) ∧ (v18 + a2) ≤ 2147483647) ∧ CX_shelf g [mi a1] S17 (Qi fun v21 S20 => mI S20 → (-2147483648 ≤ v21 ∧ v21 ≤ 2147483647) → (-2147483648 ≤ ((v21 + a2) : Int) ∧ (v21 + a2) ≤ 2147483647) ∧ (0 ≤ (v21 + a2)) ∧ ((v21 + a2) < 20300) ∧ CX_shelve g [mt, mi (v18 + a2), mi (S20 8 (v21 + a2))] S20 (Qi fun v26 S25 => mI S25 → (-2147483648 ≤ v26 ∧ v26 ≤ 2147483647) → Qp (some (mi v26)) S25)))) ∧ (¬ (v16 = 0) → Qp (some (mi 0)) S15)))) ∧ (¬ (v2 ≠ 0) → (((S1 10 0) ≠ 30) → CX_refused g [mt, mi 1, mi 0, mi 0] S1 (Qi fun v28 S27 => mI S27 → (-2147483648 ≤ v28 ∧ v28 ≤ 2147483647) → ((v28 = 0) → CX_shelf g [mi a1] S27 (Qi fun v30 S29 => mI S29 → (-2147483648 ≤ v30 ∧ v30 ≤ 2147483647) → (-2147483648 ≤ ((v30 + a2) : Int) ∧ (v30 + a2) ≤ 2147483647) ∧ CX_shelf g [mi a1] S29 (Qi fun v33 S32 => mI S32 → (-2147483648 ≤ v33 ∧ v33 ≤ 2147483647) → (-2147483648 ≤ ((v33 + a2) : Int) ∧ (v33 + a2) ≤ 2147483647) ∧ (0 ≤ (v33 + a2)) ∧ ((v33 + a2) < 20300) ∧ CX_shelve g [mt, mi (v30 + a2), mi (S32 8 (v33 + a2))] S32 (Qi fun v38 S37 => mI S37 → (-2147483648 ≤ v38 ∧ v38 ≤ 2147483647) → Qp (some (mi v38)) S37)))) ∧ (¬ (v28 = 0) → Qp (some (mi 0)) S27))) ∧ (¬ ((S1 10 0) ≠ 30) → CX_refused g [mt, mi 1, mi 1, mi 0] S1 (Qi fun v40 S39 => mI S39 → (-2147483648 ≤ v40 ∧ v40 ≤ 2147483647) → ((v40 = 0) → CX_shelf g [mi a1] S39 (Qi fun v42 S41 => mI S41 → (-2147483648 ≤ v42 ∧ v42 ≤ 2147483647) → (-2147483648 ≤ ((v42 + a2) : Int) ∧ (v42 + a2) ≤ 2147483647) ∧ CX_shelf g [mi a1] S41 (Qi fun v45 S44 => mI S44 → (-2147483648 ≤ v45 ∧ v45 ≤ 2147483647) → (-2147483648 ≤ ((v45 + a2) : Int) ∧ (v45 + a2) ≤ 2147483647) ∧ (0 ≤ (v45 + a2)) ∧ ((v45 + a2) < 20300) ∧ CX_shelve g [mt, mi (v42 + a2), mi (S44 8 (v45 + a2))] S44 (Qi fun v50 S49 => mI S49 → (-2147483648 ≤ v50 ∧ v50 ≤ 2147483647) → Qp (some (mi v50)) S49)))) ∧ (¬ (v40 = 0) → Qp (some (mi 0)) S39))))))
    : CX_part g [mt, mi a1, mi a2] S Qp := by
  refine cm_y ⟨by decide, rfl⟩ (by simp [mcat]) (by simp) (fun _ _ _ _ _ => False) ?_ ?_
  · intro ha hS P Y Wk hIc
    have h := hE hS (mokI (ha (mi a1) (by simp))) (mokI (ha (mi a2) (by simp)))
    clear hE ha
    refine y_aload_n 0 Y dX6_part_0 rfl ?_
    refine y_aload_n 1 Y dX6_part_1 rfl ?_
    refine y_iload_n 2 Y dX6_part_2 rfl ?_
    refine y_iload_n 3 Y dX6_part_3 rfl ?_
    refine y_call 4 Y (as := [mi a1, mi a2]) [mt] dX6_part_4 rfl rfl rfl rfl rfl h (fun r S1 hq hI hr => ?_)
    obtain ⟨v2, rfl, h⟩ := Qi_ok hq
    replace h := h hI (mokI (hr _ rfl))
    clear hq hr
    refine y_if 7 14 Y dX6_part_7 rfl rfl (fun c => ?_) (fun c => ?_)
    · replace h := h.1 c
      refine y_iconst 14 Y dX6_part_14 rfl ?_
      refine y_aload_n 15 Y dX6_part_15 rfl ?_
      refine y_getf 16 Y 10 dX6_part_16 rfl rfl (fun _ => ?_)
      refine y_bipush 19 Y dX6_part_19 rfl ?_
      refine y_icmp 21 28 Y dX6_part_21 rfl rfl (fun c => ?_) (fun c => ?_)
      · replace h := h.1 c
        refine y_iconst 28 Y dX6_part_28 rfl ?_
        refine y_iconst 29 Y dX6_part_29 rfl ?_
        refine y_call 30 Y (as := [mi 0, mi 0, mi 0]) [] dX6_part_30 rfl rfl rfl rfl rfl h (fun r S3 hq hI hr => ?_)
        obtain ⟨v4, rfl, h⟩ := Qi_ok hq
        replace h := h hI (mokI (hr _ rfl))
        clear hq hr
        refine y_if 33 38 Y dX6_part_33 rfl rfl (fun c => ?_) (fun c => ?_)
        · replace h := h.1 c
          refine y_aload_n 38 Y dX6_part_38 rfl ?_
          refine y_iload_n 39 Y dX6_part_39 rfl ?_
          refine y_calls 40 Y (as := [mi a1]) [mt] dX6_part_40 rfl rfl rfl rfl rfl h (fun r S5 hq hI hr => ?_)
          obtain ⟨v6, rfl, h⟩ := Qi_ok hq
          replace h := h hI (mokI (hr _ rfl))
          clear hq hr
          refine y_iload_n 43 Y dX6_part_43 rfl ?_
          obtain ⟨o7, h⟩ := h
          refine y_iadd 44 Y dX6_part_44 o7 ?_
          refine y_aload_n 45 Y dX6_part_45 rfl ?_
          refine y_geta 46 Y 8 dX6_part_46 rfl rfl ?_
          refine y_iload_n 49 Y dX6_part_49 rfl ?_
          refine y_calls 50 Y (as := [mi a1]) [mr 8, mi (v6 + a2), mt] dX6_part_50 rfl rfl rfl rfl rfl h (fun r S8 hq hI hr => ?_)
          obtain ⟨v9, rfl, h⟩ := Qi_ok hq
          replace h := h hI (mokI (hr _ rfl))
          clear hq hr
          refine y_iload_n 53 Y dX6_part_53 rfl ?_
          obtain ⟨o10, h⟩ := h
          refine y_iadd 54 Y dX6_part_54 o10 ?_
          obtain ⟨o11, h⟩ := h
          obtain ⟨o12, h⟩ := h
          refine y_iald 55 Y dX6_part_55 rfl rfl o11 o12 (fun _ => ?_)
          refine y_call 56 Y (as := [mi (v6 + a2), mi (S8 8 (v9 + a2))]) [] dX6_part_56 rfl rfl rfl rfl rfl h (fun r S13 hq hI hr => ?_)
          obtain ⟨v14, rfl, h⟩ := Qi_ok hq
          replace h := h hI (mokI (hr _ rfl))
          clear hq hr
          exact y_iret 59 Y dX6_part_59 rfl h
        · replace h := h.2 c
          refine y_iconst 36 Y dX6_part_36 rfl ?_
          exact y_iret 37 Y dX6_part_37 rfl h
      · replace h := h.2 c
        refine y_iconst 24 Y dX6_part_24 rfl ?_
        refine y_goto 25 29 Y dX6_part_25 rfl rfl ?_
        refine y_iconst 29 Y dX6_part_29 rfl ?_
        refine y_call 30 Y (as := [mi 0, mi 1, mi 0]) [] dX6_part_30 rfl rfl rfl rfl rfl h (fun r S15 hq hI hr => ?_)
        obtain ⟨v16, rfl, h⟩ := Qi_ok hq
        replace h := h hI (mokI (hr _ rfl))
        clear hq hr
        refine y_if 33 38 Y dX6_part_33 rfl rfl (fun c => ?_) (fun c => ?_)
        · replace h := h.1 c
          refine y_aload_n 38 Y dX6_part_38 rfl ?_
          refine y_iload_n 39 Y dX6_part_39 rfl ?_
          refine y_calls 40 Y (as := [mi a1]) [mt] dX6_part_40 rfl rfl rfl rfl rfl h (fun r S17 hq hI hr => ?_)
          obtain ⟨v18, rfl, h⟩ := Qi_ok hq
          replace h := h hI (mokI (hr _ rfl))
          clear hq hr
          refine y_iload_n 43 Y dX6_part_43 rfl ?_
          obtain ⟨o19, h⟩ := h
          refine y_iadd 44 Y dX6_part_44 o19 ?_
          refine y_aload_n 45 Y dX6_part_45 rfl ?_
          refine y_geta 46 Y 8 dX6_part_46 rfl rfl ?_
          refine y_iload_n 49 Y dX6_part_49 rfl ?_
          refine y_calls 50 Y (as := [mi a1]) [mr 8, mi (v18 + a2), mt] dX6_part_50 rfl rfl rfl rfl rfl h (fun r S20 hq hI hr => ?_)
          obtain ⟨v21, rfl, h⟩ := Qi_ok hq
          replace h := h hI (mokI (hr _ rfl))
          clear hq hr
          refine y_iload_n 53 Y dX6_part_53 rfl ?_
          obtain ⟨o22, h⟩ := h
          refine y_iadd 54 Y dX6_part_54 o22 ?_
          obtain ⟨o23, h⟩ := h
          obtain ⟨o24, h⟩ := h
          refine y_iald 55 Y dX6_part_55 rfl rfl o23 o24 (fun _ => ?_)
          refine y_call 56 Y (as := [mi (v18 + a2), mi (S20 8 (v21 + a2))]) [] dX6_part_56 rfl rfl rfl rfl rfl h (fun r S25 hq hI hr => ?_)
          obtain ⟨v26, rfl, h⟩ := Qi_ok hq
          replace h := h hI (mokI (hr _ rfl))
          clear hq hr
          exact y_iret 59 Y dX6_part_59 rfl h
        · replace h := h.2 c
          refine y_iconst 36 Y dX6_part_36 rfl ?_
          exact y_iret 37 Y dX6_part_37 rfl h
    · replace h := h.2 c
      refine y_iconst 10 Y dX6_part_10 rfl ?_
      refine y_goto 11 15 Y dX6_part_11 rfl rfl ?_
      refine y_aload_n 15 Y dX6_part_15 rfl ?_
      refine y_getf 16 Y 10 dX6_part_16 rfl rfl (fun _ => ?_)
      refine y_bipush 19 Y dX6_part_19 rfl ?_
      refine y_icmp 21 28 Y dX6_part_21 rfl rfl (fun c => ?_) (fun c => ?_)
      · replace h := h.1 c
        refine y_iconst 28 Y dX6_part_28 rfl ?_
        refine y_iconst 29 Y dX6_part_29 rfl ?_
        refine y_call 30 Y (as := [mi 1, mi 0, mi 0]) [] dX6_part_30 rfl rfl rfl rfl rfl h (fun r S27 hq hI hr => ?_)
        obtain ⟨v28, rfl, h⟩ := Qi_ok hq
        replace h := h hI (mokI (hr _ rfl))
        clear hq hr
        refine y_if 33 38 Y dX6_part_33 rfl rfl (fun c => ?_) (fun c => ?_)
        · replace h := h.1 c
          refine y_aload_n 38 Y dX6_part_38 rfl ?_
          refine y_iload_n 39 Y dX6_part_39 rfl ?_
          refine y_calls 40 Y (as := [mi a1]) [mt] dX6_part_40 rfl rfl rfl rfl rfl h (fun r S29 hq hI hr => ?_)
          obtain ⟨v30, rfl, h⟩ := Qi_ok hq
          replace h := h hI (mokI (hr _ rfl))
          clear hq hr
          refine y_iload_n 43 Y dX6_part_43 rfl ?_
          obtain ⟨o31, h⟩ := h
          refine y_iadd 44 Y dX6_part_44 o31 ?_
          refine y_aload_n 45 Y dX6_part_45 rfl ?_
          refine y_geta 46 Y 8 dX6_part_46 rfl rfl ?_
          refine y_iload_n 49 Y dX6_part_49 rfl ?_
          refine y_calls 50 Y (as := [mi a1]) [mr 8, mi (v30 + a2), mt] dX6_part_50 rfl rfl rfl rfl rfl h (fun r S32 hq hI hr => ?_)
          obtain ⟨v33, rfl, h⟩ := Qi_ok hq
          replace h := h hI (mokI (hr _ rfl))
          clear hq hr
          refine y_iload_n 53 Y dX6_part_53 rfl ?_
          obtain ⟨o34, h⟩ := h
          refine y_iadd 54 Y dX6_part_54 o34 ?_
          obtain ⟨o35, h⟩ := h
          obtain ⟨o36, h⟩ := h
          refine y_iald 55 Y dX6_part_55 rfl rfl o35 o36 (fun _ => ?_)
          refine y_call 56 Y (as := [mi (v30 + a2), mi (S32 8 (v33 + a2))]) [] dX6_part_56 rfl rfl rfl rfl rfl h (fun r S37 hq hI hr => ?_)
          obtain ⟨v38, rfl, h⟩ := Qi_ok hq
          replace h := h hI (mokI (hr _ rfl))
          clear hq hr
          exact y_iret 59 Y dX6_part_59 rfl h
        · replace h := h.2 c
          refine y_iconst 36 Y dX6_part_36 rfl ?_
          exact y_iret 37 Y dX6_part_37 rfl h
      · replace h := h.2 c
        refine y_iconst 24 Y dX6_part_24 rfl ?_
        refine y_goto 25 29 Y dX6_part_25 rfl rfl ?_
        refine y_iconst 29 Y dX6_part_29 rfl ?_
        refine y_call 30 Y (as := [mi 1, mi 1, mi 0]) [] dX6_part_30 rfl rfl rfl rfl rfl h (fun r S39 hq hI hr => ?_)
        obtain ⟨v40, rfl, h⟩ := Qi_ok hq
        replace h := h hI (mokI (hr _ rfl))
        clear hq hr
        refine y_if 33 38 Y dX6_part_33 rfl rfl (fun c => ?_) (fun c => ?_)
        · replace h := h.1 c
          refine y_aload_n 38 Y dX6_part_38 rfl ?_
          refine y_iload_n 39 Y dX6_part_39 rfl ?_
          refine y_calls 40 Y (as := [mi a1]) [mt] dX6_part_40 rfl rfl rfl rfl rfl h (fun r S41 hq hI hr => ?_)
          obtain ⟨v42, rfl, h⟩ := Qi_ok hq
          replace h := h hI (mokI (hr _ rfl))
          clear hq hr
          refine y_iload_n 43 Y dX6_part_43 rfl ?_
          obtain ⟨o43, h⟩ := h
          refine y_iadd 44 Y dX6_part_44 o43 ?_
          refine y_aload_n 45 Y dX6_part_45 rfl ?_
          refine y_geta 46 Y 8 dX6_part_46 rfl rfl ?_
          refine y_iload_n 49 Y dX6_part_49 rfl ?_
          refine y_calls 50 Y (as := [mi a1]) [mr 8, mi (v42 + a2), mt] dX6_part_50 rfl rfl rfl rfl rfl h (fun r S44 hq hI hr => ?_)
          obtain ⟨v45, rfl, h⟩ := Qi_ok hq
          replace h := h hI (mokI (hr _ rfl))
          clear hq hr
          refine y_iload_n 53 Y dX6_part_53 rfl ?_
          obtain ⟨o46, h⟩ := h
          refine y_iadd 54 Y dX6_part_54 o46 ?_
          obtain ⟨o47, h⟩ := h
          obtain ⟨o48, h⟩ := h
          refine y_iald 55 Y dX6_part_55 rfl rfl o47 o48 (fun _ => ?_)
          refine y_call 56 Y (as := [mi (v42 + a2), mi (S44 8 (v45 + a2))]) [] dX6_part_56 rfl rfl rfl rfl rfl h (fun r S49 hq hI hr => ?_)
          obtain ⟨v50, rfl, h⟩ := Qi_ok hq
          replace h := h hI (mokI (hr _ rfl))
          clear hq hr
          exact y_iret 59 Y dX6_part_59 rfl h
        · replace h := h.2 c
          refine y_iconst 36 Y dX6_part_36 rfl ?_
          exact y_iret 37 Y dX6_part_37 rfl h
  · intro n pc L st T hi
    exact hi.elim
set_option maxHeartbeats 4000000 in
theorem of_postfix {g : mG} {S : mS} {a1 : Int} {Qp : Option mV → mS → Prop}
    (hE : mI S → (-2147483648 ≤ a1 ∧ a1 ≤ 2147483647) → CX_isTree g [mt, mi a1] S (Qi fun v2 S1 => mI S1 → (-2147483648 ≤ v2 ∧ v2 ≤ 2147483647) → ((v2 ≠ 0) → CX_isTree g [mt, mi a1] S1 (Qi fun v4 S3 => mI S3 → (-2147483648 ≤ v4 ∧ v4 ≤ 2147483647) → ((v4 = 0) → CX_refused g [mt, mi 0, mi 0, mi 0] S3 (Qi fun v6 S5 => mI S5 → (-2147483648 ≤ v6 ∧ v6 ≤ 2147483647) → ((v6 = 0) → CX_shelf g [mi a1] S5 (Qi fun v8 S7 => mI S7 → (-2147483648 ≤ v8 ∧ v8 ≤ 2147483647) → CX_outPostfix g [mt, mi v8] S7 (Qv fun S9 => mI S9 → Qp (some (mi (S9 42 0))) S9))) ∧ (¬ (v6 = 0) → Qp (some (mi 0)) S5))) ∧ (¬ (v4 = 0) → CX_shelf g [mi a1] S3 (Qi fun v11 S10 => mI S10 → (-2147483648 ≤ v11 ∧ v11 ≤ 2147483647) → CX_hasOwnCall g [mt, mi v11] S10 (Qi fun v13 S12 => mI S12 → (-2147483648 ≤ v13 ∧ v13 ≤ 2147483647) → ((v13 = 0) → CX_refused g [mt, mi 0, mi 0, mi 0] S12 (Qi fun v15 S14 => mI S14 → (-2147483648 ≤ v15 ∧ v15 ≤ 2147483647) → ((v15 = 0) → CX_shelf g [mi a1] S14 (Qi fun v17 S16 => mI S16 → (-2147483648 ≤ v17 ∧ v17 ≤ 2147483647) → CX_outPostfix g [mt, mi v17] S16 (Qv fun S18 => mI S18 → Qp (some (mi (S18 42 0))) S18))) ∧ (¬ (v15 = 0) → Qp (some (mi 0)) S14))) ∧ (¬ (v13 = 0) → CX_refused g [mt, mi 0, mi 1, mi 0] S12 (Qi fun v20 S19 => mI S19 → (-2147483648 ≤ v20 ∧ v20 ≤ 2147483647) → ((v20 = 0) → CX_shelf g [mi a1] S19 (Qi fun v22 S21 => mI S21 → (-2147483648 ≤ v22 ∧ v22 ≤ 2147483647) → CX_outPostfix g [mt, mi v22] S21 (Qv fun S23 => mI S23 → Qp (some (mi (S23 42 0))) S23))) ∧ (¬ (v20 = 0) → Qp (some (mi 0)) S19)))))))) ∧ (¬ (v2 ≠ 0) → CX_isTree g [mt, mi a1] S1 (Qi fun v25 S24 => mI S24 → (-2147483648 ≤ v25 ∧ v25 ≤ 2147483647) → ((v25 = 0) → CX_refused g [mt, mi 1, mi 0, mi 0] S24 (Qi fun v27 S26 => mI S26 → (-2147483648 ≤ v27 ∧ v27 ≤ 2147483647) → ((v27 = 0) → CX_shelf g [mi a1] S26 (Qi fun v29 S28 => mI S28 → (-2147483648 ≤ v29 ∧ v29 ≤ 2147483647) → CX_outPostfix g [mt, mi v29] S28 (Qv fun S30 => mI S30 → Qp (some (mi (S30 42 0))) S30))) ∧ (¬ (v27 = 0) → Qp (some (mi 0)) S26))) ∧ (¬ (v25 = 0) → CX_shelf g [mi a1] S24 (Qi fun v32 S31 => mI S31 → (-2147483648 ≤ v32 ∧ v32 ≤ 2147483647) → CX_hasOwnCall g [mt, mi v32] S31 (Qi fun v34 S33 => mI S33 → (-2147483648 ≤ v34 ∧ v34 ≤ 2147483647) → ((v34 = 0) → CX_refused g [mt, mi 1, mi 0, mi 0] S33 (Qi fun v36 S35 => mI S35 → (-2147483648 ≤ v36 ∧ v36 ≤ 2147483647) → ((v36 = 0) → CX_shelf g [mi a1] S35 (Qi fun v38 S37 => mI S37 → (-2147483648 ≤ v38 ∧ v38 ≤ 2147483647) → CX_outPostfix g [mt, mi v38] S37 (Qv fun S39 => mI S39 → Qp (some (mi (S39 42 0))) S39))) ∧ (¬ (v36 = 0) → Qp (some (mi 0)) S35))) ∧ (¬ (v34 = 0) → CX_refused g [mt, mi 1, mi 1, mi 0] S33 (Qi fun v41 S40 => mI S40 → (-2147483648 ≤ v41 ∧ v41 ≤ 2147483647) → ((v41 = 0) → CX_shelf g [mi a1] S40 (Qi fun v43 S42 => mI S42 → (-2147483648 ≤ v43 ∧ v43 ≤ 2147483647) → CX_outPostfix g [mt, mi v43] S42 (Qv fun S44 => mI S44 → Qp (some (mi (S44 42 0))) S44))) ∧ (¬ (v41 = 0) → Qp (some (mi 0)) S40))))))))))
    : CX_postfix g [mt, mi a1] S Qp := by
  refine cm_y ⟨by decide, rfl⟩ (by simp [mcat]) (by simp) (fun _ _ _ _ _ => False) ?_ ?_
  · intro ha hS P Y Wk hIc
    have h := hE hS (mokI (ha (mi a1) (by simp)))
    clear hE ha
    refine y_aload_n 0 Y dX6_postfix_0 rfl ?_
    refine y_aload_n 1 Y dX6_postfix_1 rfl ?_
    refine y_iload_n 2 Y dX6_postfix_2 rfl ?_
    refine y_call 3 Y (as := [mi a1]) [mt] dX6_postfix_3 rfl rfl rfl rfl rfl h (fun r S1 hq hI hr => ?_)
    obtain ⟨v2, rfl, h⟩ := Qi_ok hq
    replace h := h hI (mokI (hr _ rfl))
    clear hq hr
    refine y_if 6 13 Y dX6_postfix_6 rfl rfl (fun c => ?_) (fun c => ?_)
    · replace h := h.1 c
      refine y_iconst 13 Y dX6_postfix_13 rfl ?_
      refine y_aload_n 14 Y dX6_postfix_14 rfl ?_
      refine y_iload_n 15 Y dX6_postfix_15 rfl ?_
      refine y_call 16 Y (as := [mi a1]) [mi 0, mt] dX6_postfix_16 rfl rfl rfl rfl rfl h (fun r S3 hq hI hr => ?_)
      obtain ⟨v4, rfl, h⟩ := Qi_ok hq
      replace h := h hI (mokI (hr _ rfl))
      clear hq hr
      refine y_if 19 37 Y dX6_postfix_19 rfl rfl (fun c => ?_) (fun c => ?_)
      · replace h := h.1 c
        refine y_iconst 37 Y dX6_postfix_37 rfl ?_
        refine y_iconst 38 Y dX6_postfix_38 rfl ?_
        refine y_call 39 Y (as := [mi 0, mi 0, mi 0]) [] dX6_postfix_39 rfl rfl rfl rfl rfl h (fun r S5 hq hI hr => ?_)
        obtain ⟨v6, rfl, h⟩ := Qi_ok hq
        replace h := h hI (mokI (hr _ rfl))
        clear hq hr
        refine y_if 42 47 Y dX6_postfix_42 rfl rfl (fun c => ?_) (fun c => ?_)
        · replace h := h.1 c
          refine y_aload_n 47 Y dX6_postfix_47 rfl ?_
          refine y_iload_n 48 Y dX6_postfix_48 rfl ?_
          refine y_calls 49 Y (as := [mi a1]) [mt] dX6_postfix_49 rfl rfl rfl rfl rfl h (fun r S7 hq hI hr => ?_)
          obtain ⟨v8, rfl, h⟩ := Qi_ok hq
          replace h := h hI (mokI (hr _ rfl))
          clear hq hr
          refine y_call 52 Y (as := [mi v8]) [] dX6_postfix_52 rfl rfl rfl rfl rfl h (fun r S9 hq hI _ => ?_)
          obtain ⟨rfl, h⟩ := Qv_ok hq
          replace h := h hI
          clear hq
          refine y_aload_n 55 Y dX6_postfix_55 rfl ?_
          refine y_getf 56 Y 42 dX6_postfix_56 rfl rfl (fun _ => ?_)
          exact y_iret 59 Y dX6_postfix_59 rfl h
        · replace h := h.2 c
          refine y_iconst 45 Y dX6_postfix_45 rfl ?_
          exact y_iret 46 Y dX6_postfix_46 rfl h
      · replace h := h.2 c
        refine y_aload_n 22 Y dX6_postfix_22 rfl ?_
        refine y_iload_n 23 Y dX6_postfix_23 rfl ?_
        refine y_calls 24 Y (as := [mi a1]) [mt, mi 0, mt] dX6_postfix_24 rfl rfl rfl rfl rfl h (fun r S10 hq hI hr => ?_)
        obtain ⟨v11, rfl, h⟩ := Qi_ok hq
        replace h := h hI (mokI (hr _ rfl))
        clear hq hr
        refine y_call 27 Y (as := [mi v11]) [mi 0, mt] dX6_postfix_27 rfl rfl rfl rfl rfl h (fun r S12 hq hI hr => ?_)
        obtain ⟨v13, rfl, h⟩ := Qi_ok hq
        replace h := h hI (mokI (hr _ rfl))
        clear hq hr
        refine y_if 30 37 Y dX6_postfix_30 rfl rfl (fun c => ?_) (fun c => ?_)
        · replace h := h.1 c
          refine y_iconst 37 Y dX6_postfix_37 rfl ?_
          refine y_iconst 38 Y dX6_postfix_38 rfl ?_
          refine y_call 39 Y (as := [mi 0, mi 0, mi 0]) [] dX6_postfix_39 rfl rfl rfl rfl rfl h (fun r S14 hq hI hr => ?_)
          obtain ⟨v15, rfl, h⟩ := Qi_ok hq
          replace h := h hI (mokI (hr _ rfl))
          clear hq hr
          refine y_if 42 47 Y dX6_postfix_42 rfl rfl (fun c => ?_) (fun c => ?_)
          · replace h := h.1 c
            refine y_aload_n 47 Y dX6_postfix_47 rfl ?_
            refine y_iload_n 48 Y dX6_postfix_48 rfl ?_
            refine y_calls 49 Y (as := [mi a1]) [mt] dX6_postfix_49 rfl rfl rfl rfl rfl h (fun r S16 hq hI hr => ?_)
            obtain ⟨v17, rfl, h⟩ := Qi_ok hq
            replace h := h hI (mokI (hr _ rfl))
            clear hq hr
            refine y_call 52 Y (as := [mi v17]) [] dX6_postfix_52 rfl rfl rfl rfl rfl h (fun r S18 hq hI _ => ?_)
            obtain ⟨rfl, h⟩ := Qv_ok hq
            replace h := h hI
            clear hq
            refine y_aload_n 55 Y dX6_postfix_55 rfl ?_
            refine y_getf 56 Y 42 dX6_postfix_56 rfl rfl (fun _ => ?_)
            exact y_iret 59 Y dX6_postfix_59 rfl h
          · replace h := h.2 c
            refine y_iconst 45 Y dX6_postfix_45 rfl ?_
            exact y_iret 46 Y dX6_postfix_46 rfl h
        · replace h := h.2 c
          refine y_iconst 33 Y dX6_postfix_33 rfl ?_
          refine y_goto 34 38 Y dX6_postfix_34 rfl rfl ?_
          refine y_iconst 38 Y dX6_postfix_38 rfl ?_
          refine y_call 39 Y (as := [mi 0, mi 1, mi 0]) [] dX6_postfix_39 rfl rfl rfl rfl rfl h (fun r S19 hq hI hr => ?_)
          obtain ⟨v20, rfl, h⟩ := Qi_ok hq
          replace h := h hI (mokI (hr _ rfl))
          clear hq hr
          refine y_if 42 47 Y dX6_postfix_42 rfl rfl (fun c => ?_) (fun c => ?_)
          · replace h := h.1 c
            refine y_aload_n 47 Y dX6_postfix_47 rfl ?_
            refine y_iload_n 48 Y dX6_postfix_48 rfl ?_
            refine y_calls 49 Y (as := [mi a1]) [mt] dX6_postfix_49 rfl rfl rfl rfl rfl h (fun r S21 hq hI hr => ?_)
            obtain ⟨v22, rfl, h⟩ := Qi_ok hq
            replace h := h hI (mokI (hr _ rfl))
            clear hq hr
            refine y_call 52 Y (as := [mi v22]) [] dX6_postfix_52 rfl rfl rfl rfl rfl h (fun r S23 hq hI _ => ?_)
            obtain ⟨rfl, h⟩ := Qv_ok hq
            replace h := h hI
            clear hq
            refine y_aload_n 55 Y dX6_postfix_55 rfl ?_
            refine y_getf 56 Y 42 dX6_postfix_56 rfl rfl (fun _ => ?_)
            exact y_iret 59 Y dX6_postfix_59 rfl h
          · replace h := h.2 c
            refine y_iconst 45 Y dX6_postfix_45 rfl ?_
            exact y_iret 46 Y dX6_postfix_46 rfl h
    · replace h := h.2 c
      refine y_iconst 9 Y dX6_postfix_9 rfl ?_
      refine y_goto 10 14 Y dX6_postfix_10 rfl rfl ?_
      refine y_aload_n 14 Y dX6_postfix_14 rfl ?_
      refine y_iload_n 15 Y dX6_postfix_15 rfl ?_
      refine y_call 16 Y (as := [mi a1]) [mi 1, mt] dX6_postfix_16 rfl rfl rfl rfl rfl h (fun r S24 hq hI hr => ?_)
      obtain ⟨v25, rfl, h⟩ := Qi_ok hq
      replace h := h hI (mokI (hr _ rfl))
      clear hq hr
      refine y_if 19 37 Y dX6_postfix_19 rfl rfl (fun c => ?_) (fun c => ?_)
      · replace h := h.1 c
        refine y_iconst 37 Y dX6_postfix_37 rfl ?_
        refine y_iconst 38 Y dX6_postfix_38 rfl ?_
        refine y_call 39 Y (as := [mi 1, mi 0, mi 0]) [] dX6_postfix_39 rfl rfl rfl rfl rfl h (fun r S26 hq hI hr => ?_)
        obtain ⟨v27, rfl, h⟩ := Qi_ok hq
        replace h := h hI (mokI (hr _ rfl))
        clear hq hr
        refine y_if 42 47 Y dX6_postfix_42 rfl rfl (fun c => ?_) (fun c => ?_)
        · replace h := h.1 c
          refine y_aload_n 47 Y dX6_postfix_47 rfl ?_
          refine y_iload_n 48 Y dX6_postfix_48 rfl ?_
          refine y_calls 49 Y (as := [mi a1]) [mt] dX6_postfix_49 rfl rfl rfl rfl rfl h (fun r S28 hq hI hr => ?_)
          obtain ⟨v29, rfl, h⟩ := Qi_ok hq
          replace h := h hI (mokI (hr _ rfl))
          clear hq hr
          refine y_call 52 Y (as := [mi v29]) [] dX6_postfix_52 rfl rfl rfl rfl rfl h (fun r S30 hq hI _ => ?_)
          obtain ⟨rfl, h⟩ := Qv_ok hq
          replace h := h hI
          clear hq
          refine y_aload_n 55 Y dX6_postfix_55 rfl ?_
          refine y_getf 56 Y 42 dX6_postfix_56 rfl rfl (fun _ => ?_)
          exact y_iret 59 Y dX6_postfix_59 rfl h
        · replace h := h.2 c
          refine y_iconst 45 Y dX6_postfix_45 rfl ?_
          exact y_iret 46 Y dX6_postfix_46 rfl h
      · replace h := h.2 c
        refine y_aload_n 22 Y dX6_postfix_22 rfl ?_
        refine y_iload_n 23 Y dX6_postfix_23 rfl ?_
        refine y_calls 24 Y (as := [mi a1]) [mt, mi 1, mt] dX6_postfix_24 rfl rfl rfl rfl rfl h (fun r S31 hq hI hr => ?_)
        obtain ⟨v32, rfl, h⟩ := Qi_ok hq
        replace h := h hI (mokI (hr _ rfl))
        clear hq hr
        refine y_call 27 Y (as := [mi v32]) [mi 1, mt] dX6_postfix_27 rfl rfl rfl rfl rfl h (fun r S33 hq hI hr => ?_)
        obtain ⟨v34, rfl, h⟩ := Qi_ok hq
        replace h := h hI (mokI (hr _ rfl))
        clear hq hr
        refine y_if 30 37 Y dX6_postfix_30 rfl rfl (fun c => ?_) (fun c => ?_)
        · replace h := h.1 c
          refine y_iconst 37 Y dX6_postfix_37 rfl ?_
          refine y_iconst 38 Y dX6_postfix_38 rfl ?_
          refine y_call 39 Y (as := [mi 1, mi 0, mi 0]) [] dX6_postfix_39 rfl rfl rfl rfl rfl h (fun r S35 hq hI hr => ?_)
          obtain ⟨v36, rfl, h⟩ := Qi_ok hq
          replace h := h hI (mokI (hr _ rfl))
          clear hq hr
          refine y_if 42 47 Y dX6_postfix_42 rfl rfl (fun c => ?_) (fun c => ?_)
          · replace h := h.1 c
            refine y_aload_n 47 Y dX6_postfix_47 rfl ?_
            refine y_iload_n 48 Y dX6_postfix_48 rfl ?_
            refine y_calls 49 Y (as := [mi a1]) [mt] dX6_postfix_49 rfl rfl rfl rfl rfl h (fun r S37 hq hI hr => ?_)
            obtain ⟨v38, rfl, h⟩ := Qi_ok hq
            replace h := h hI (mokI (hr _ rfl))
            clear hq hr
            refine y_call 52 Y (as := [mi v38]) [] dX6_postfix_52 rfl rfl rfl rfl rfl h (fun r S39 hq hI _ => ?_)
            obtain ⟨rfl, h⟩ := Qv_ok hq
            replace h := h hI
            clear hq
            refine y_aload_n 55 Y dX6_postfix_55 rfl ?_
            refine y_getf 56 Y 42 dX6_postfix_56 rfl rfl (fun _ => ?_)
            exact y_iret 59 Y dX6_postfix_59 rfl h
          · replace h := h.2 c
            refine y_iconst 45 Y dX6_postfix_45 rfl ?_
            exact y_iret 46 Y dX6_postfix_46 rfl h
        · replace h := h.2 c
          refine y_iconst 33 Y dX6_postfix_33 rfl ?_
          refine y_goto 34 38 Y dX6_postfix_34 rfl rfl ?_
          refine y_iconst 38 Y dX6_postfix_38 rfl ?_
          refine y_call 39 Y (as := [mi 1, mi 1, mi 0]) [] dX6_postfix_39 rfl rfl rfl rfl rfl h (fun r S40 hq hI hr => ?_)
          obtain ⟨v41, rfl, h⟩ := Qi_ok hq
          replace h := h hI (mokI (hr _ rfl))
          clear hq hr
          refine y_if 42 47 Y dX6_postfix_42 rfl rfl (fun c => ?_) (fun c => ?_)
          · replace h := h.1 c
            refine y_aload_n 47 Y dX6_postfix_47 rfl ?_
            refine y_iload_n 48 Y dX6_postfix_48 rfl ?_
            refine y_calls 49 Y (as := [mi a1]) [mt] dX6_postfix_49 rfl rfl rfl rfl rfl h (fun r S42 hq hI hr => ?_)
            obtain ⟨v43, rfl, h⟩ := Qi_ok hq
            replace h := h hI (mokI (hr _ rfl))
            clear hq hr
            refine y_call 52 Y (as := [mi v43]) [] dX6_postfix_52 rfl rfl rfl rfl rfl h (fun r S44 hq hI _ => ?_)
            obtain ⟨rfl, h⟩ := Qv_ok hq
            replace h := h hI
            clear hq
            refine y_aload_n 55 Y dX6_postfix_55 rfl ?_
            refine y_getf 56 Y 42 dX6_postfix_56 rfl rfl (fun _ => ?_)
            exact y_iret 59 Y dX6_postfix_59 rfl h
          · replace h := h.2 c
            refine y_iconst 45 Y dX6_postfix_45 rfl ?_
            exact y_iret 46 Y dX6_postfix_46 rfl h
  · intro n pc L st T hi
    exact hi.elim
set_option maxHeartbeats 4000000 in
theorem of_raiseWhole {g : mG} {S : mS}  {Qp : Option mV → mS → Prop} (I2 : Nat → Int → mS → Prop) (I19 : Nat → Int → Int → Int → mS → Prop) (I115 : Nat → Int → mS → Prop)
    (hE : mI S → (∃ n1, I2 n1 0 S))
    (h2 : ∀ (n : Nat) (l1 : Int) (T : mS), mI T → (-2147483648 ≤ l1 ∧ l1 ≤ 2147483647) → I2 n l1 T → ((9 ≤ l1) → (∃ n1, n1 < n ∧ I115 n1 0 T)) ∧ (¬ (9 ≤ l1) → CX_put g [mt, mi 6, mi 0] T (Qv fun S1 => mI S1 → (∃ n1, n1 < n ∧ I19 n1 l1 0 0 S1))))
    (h19 : ∀ (n : Nat) (l1 l2 l3 : Int) (T : mS), mI T → (-2147483648 ≤ l1 ∧ l1 ≤ 2147483647) → (-2147483648 ≤ l2 ∧ l2 ≤ 2147483647) → (-2147483648 ≤ l3 ∧ l3 ≤ 2147483647) → I19 n l1 l2 l3 T → ((l1 < l3) → (-2147483648 ≤ ((18 + l1) : Int) ∧ (18 + l1) ≤ 2147483647) ∧ CX_keepWhole g [mt, mi (18 + l1), mi 6, mi l2] T (Qv fun S2 => mI S2 → (-2147483648 ≤ ((l1 + 1) : Int) ∧ (l1 + 1) ≤ 2147483647) ∧ (∃ n1, n1 < n ∧ I2 n1 (l1 + 1) S2))) ∧ (¬ (l1 < l3) → (-2147483648 ≤ ((9 + l3) : Int) ∧ (9 + l3) ≤ 2147483647) ∧ (0 ≤ (9 + l3)) ∧ ((9 + l3) < 27) ∧ (-2147483648 ≤ ((0 + l1) : Int) ∧ (0 + l1) ≤ 2147483647) ∧ (-2147483648 ≤ (((0 + l1) - l3) : Int) ∧ ((0 + l1) - l3) ≤ 2147483647) ∧ (0 ≤ ((0 + l1) - l3)) ∧ (((0 + l1) - l3) < 27) ∧ (-2147483648 ≤ (((T 72 (9 + l3)) * (T 72 ((0 + l1) - l3))) : Int) ∧ ((T 72 (9 + l3)) * (T 72 ((0 + l1) - l3))) ≤ 2147483647) ∧ ((((T 72 (9 + l3)) * (T 72 ((0 + l1) - l3))) = 0) → (-2147483648 ≤ ((l3 + 1) : Int) ∧ (l3 + 1) ≤ 2147483647) ∧ (∃ n1, n1 < n ∧ I19 n1 l1 l2 (l3 + 1) T)) ∧ (¬ (((T 72 (9 + l3)) * (T 72 ((0 + l1) - l3))) = 0) → CX_loadWhole g [mt, mi 2, mi (9 + l3)] T (Qv fun S13 => mI S13 → CX_loadWhole g [mt, mi 3, mi ((0 + l1) - l3)] S13 (Qv fun S14 => mI S14 → CX_times g [mt, mi 7, mi 2, mi 3] S14 (Qv fun S15 => mI S15 → CX_signed g [mt, mi 6, mi l2, mi 7, mi ((T 72 (9 + l3)) * (T 72 ((0 + l1) - l3)))] S15 (Qi fun v17 S16 => mI S16 → (-2147483648 ≤ v17 ∧ v17 ≤ 2147483647) → (-2147483648 ≤ ((l3 + 1) : Int) ∧ (l3 + 1) ≤ 2147483647) ∧ (∃ n1, n1 < n ∧ I19 n1 l1 v17 (l3 + 1) S16))))))))
    (h115 : ∀ (n : Nat) (l1 : Int) (T : mS), mI T → (-2147483648 ≤ l1 ∧ l1 ≤ 2147483647) → I115 n l1 T → ((9 ≤ l1) → Qp none T) ∧ (¬ (9 ≤ l1) → (-2147483648 ≤ ((18 + l1) : Int) ∧ (18 + l1) ≤ 2147483647) ∧ CX_loadWhole g [mt, mi 2, mi (18 + l1)] T (Qv fun S2 => mI S2 → (-2147483648 ≤ ((9 + l1) : Int) ∧ (9 + l1) ≤ 2147483647) ∧ (0 ≤ (18 + l1)) ∧ ((18 + l1) < 27) ∧ CX_keepWhole g [mt, mi (9 + l1), mi 2, mi (S2 72 (18 + l1))] S2 (Qv fun S6 => mI S6 → (-2147483648 ≤ ((l1 + 1) : Int) ∧ (l1 + 1) ≤ 2147483647) ∧ (∃ n1, n1 < n ∧ I115 n1 (l1 + 1) S6)))))
    : CX_raiseWhole g [mt] S Qp := by
  refine cm_y ⟨by decide, rfl⟩ (by simp [mcat]) (by simp) (fun n pc L st S => (pc = 2 ∧ ∃ (l1 : Int), L = [some mt, some (mi l1), none, none, none] ∧ st = [] ∧ I2 n l1 S) ∨ (pc = 19 ∧ ∃ (l1 : Int) (l2 : Int) (l3 : Int), L = [some mt, some (mi l1), some (mi l2), some (mi l3), none] ∧ st = [] ∧ I19 n l1 l2 l3 S) ∨ (pc = 115 ∧ ∃ (l1 : Int), L = [some mt, some (mi l1), none, none, none] ∧ st = [] ∧ I115 n l1 S)) ?_ ?_
  · intro ha hS P Y Wk hIc
    have h := hE hS
    clear hE ha h2 h19 h115
    refine y_iconst 0 Y dX6_raiseWhole_0 rfl ?_
    refine y_istore_n 1 Y [some mt, some (mi 0), none, none, none] dX6_raiseWhole_1 rfl rfl ?_
    obtain ⟨n1, h⟩ := h
    exact Wk 2 _ [some mt, some (mi 0), none, none, none] _ _ ⟨rfl, ⟨rfl, trivial⟩⟩ (hIc n1 _ _ _ _ (Or.inl (⟨rfl, _, rfl, rfl, h⟩)))
  · intro n pc L st T hi hS hL P Y Wk hIc
    clear hE
    rcases hi with ⟨rfl, l1, rfl, rfl, hi⟩ | ⟨rfl, l1, l2, l3, rfl, rfl, hi⟩ | ⟨rfl, l1, rfl, rfl, hi⟩
    · have h := h2 n l1 T hS (hL 1 _ rfl) hi
      clear hL hi h2 h19 h115
      refine y_iload_n 2 Y dX6_raiseWhole_2 rfl ?_
      refine y_bipush 3 Y dX6_raiseWhole_3 rfl ?_
      refine y_icmp 5 113 Y dX6_raiseWhole_5 rfl rfl (fun c => ?_) (fun c => ?_)
      · replace h := h.1 c
        refine y_iconst 113 Y dX6_raiseWhole_113 rfl ?_
        refine y_istore_n 114 Y [some mt, some (mi 0), none, none, none] dX6_raiseWhole_114 rfl rfl ?_
        obtain ⟨n1, hn, h⟩ := h
        exact Wk 115 _ [some mt, some (mi 0), none, none, none] _ _ ⟨rfl, ⟨rfl, trivial⟩⟩ (hIc n1 _ _ _ _ hn (Or.inr (Or.inr ((⟨rfl, _, rfl, rfl, h⟩)))))
      · replace h := h.2 c
        refine y_aload_n 8 Y dX6_raiseWhole_8 rfl ?_
        refine y_bipush 9 Y dX6_raiseWhole_9 rfl ?_
        refine y_iconst 11 Y dX6_raiseWhole_11 rfl ?_
        refine y_call 12 Y (as := [mi 6, mi 0]) [] dX6_raiseWhole_12 rfl rfl rfl rfl rfl h (fun r S1 hq hI _ => ?_)
        obtain ⟨rfl, h⟩ := Qv_ok hq
        replace h := h hI
        clear hq
        refine y_iconst 15 Y dX6_raiseWhole_15 rfl ?_
        refine y_istore_n 16 Y [some mt, some (mi l1), some (mi 0), none, none] dX6_raiseWhole_16 rfl rfl ?_
        refine y_iconst 17 Y dX6_raiseWhole_17 rfl ?_
        refine y_istore_n 18 Y [some mt, some (mi l1), some (mi 0), some (mi 0), none] dX6_raiseWhole_18 rfl rfl ?_
        obtain ⟨n1, hn, h⟩ := h
        exact Wk 19 _ [some mt, some (mi l1), some (mi 0), some (mi 0), none] _ _ ⟨rfl, ⟨rfl, ⟨rfl, ⟨rfl, trivial⟩⟩⟩⟩ (hIc n1 _ _ _ _ hn (Or.inr (Or.inl (⟨rfl, _, _, _, rfl, rfl, h⟩))))
    · have h := h19 n l1 l2 l3 T hS (hL 1 _ rfl) (hL 2 _ rfl) (hL 3 _ rfl) hi
      clear hL hi h2 h19 h115
      refine y_iload_n 19 Y dX6_raiseWhole_19 rfl ?_
      refine y_iload_n 20 Y dX6_raiseWhole_20 rfl ?_
      refine y_icmp 21 96 Y dX6_raiseWhole_21 rfl rfl (fun c => ?_) (fun c => ?_)
      · replace h := h.1 c
        refine y_aload_n 96 Y dX6_raiseWhole_96 rfl ?_
        refine y_bipush 97 Y dX6_raiseWhole_97 rfl ?_
        refine y_iload_n 99 Y dX6_raiseWhole_99 rfl ?_
        obtain ⟨o1, h⟩ := h
        refine y_iadd 100 Y dX6_raiseWhole_100 o1 ?_
        refine y_bipush 101 Y dX6_raiseWhole_101 rfl ?_
        refine y_iload_n 103 Y dX6_raiseWhole_103 rfl ?_
        refine y_call 104 Y (as := [mi (18 + l1), mi 6, mi l2]) [] dX6_raiseWhole_104 rfl rfl rfl rfl rfl h (fun r S2 hq hI _ => ?_)
        obtain ⟨rfl, h⟩ := Qv_ok hq
        replace h := h hI
        clear hq
        obtain ⟨o3, h⟩ := h
        refine y_iinc 107 Y [some mt, some (mi (l1 + 1)), some (mi l2), some (mi l3), none] dX6_raiseWhole_107 rfl rfl o3 ?_
        refine y_goto 110 2 Y dX6_raiseWhole_110 rfl rfl ?_
        obtain ⟨n1, hn, h⟩ := h
        exact Wk 2 _ [some mt, some (mi (l1 + 1)), none, none, none] _ _ ⟨rfl, ⟨rfl, trivial⟩⟩ (hIc n1 _ _ _ _ hn (Or.inl (⟨rfl, _, rfl, rfl, h⟩)))
      · replace h := h.2 c
        refine y_aload_n 24 Y dX6_raiseWhole_24 rfl ?_
        refine y_geta 25 Y 72 dX6_raiseWhole_25 rfl rfl ?_
        refine y_bipush 28 Y dX6_raiseWhole_28 rfl ?_
        refine y_iload_n 30 Y dX6_raiseWhole_30 rfl ?_
        obtain ⟨o4, h⟩ := h
        refine y_iadd 31 Y dX6_raiseWhole_31 o4 ?_
        obtain ⟨o5, h⟩ := h
        obtain ⟨o6, h⟩ := h
        refine y_iald 32 Y dX6_raiseWhole_32 rfl rfl o5 o6 (fun _ => ?_)
        refine y_aload_n 33 Y dX6_raiseWhole_33 rfl ?_
        refine y_geta 34 Y 72 dX6_raiseWhole_34 rfl rfl ?_
        refine y_iconst 37 Y dX6_raiseWhole_37 rfl ?_
        refine y_iload_n 38 Y dX6_raiseWhole_38 rfl ?_
        obtain ⟨o7, h⟩ := h
        refine y_iadd 39 Y dX6_raiseWhole_39 o7 ?_
        refine y_iload_n 40 Y dX6_raiseWhole_40 rfl ?_
        obtain ⟨o8, h⟩ := h
        refine y_isub 41 Y dX6_raiseWhole_41 o8 ?_
        obtain ⟨o9, h⟩ := h
        obtain ⟨o10, h⟩ := h
        refine y_iald 42 Y dX6_raiseWhole_42 rfl rfl o9 o10 (fun _ => ?_)
        obtain ⟨o11, h⟩ := h
        refine y_imul 43 Y dX6_raiseWhole_43 o11 ?_
        refine y_istore 44 Y [some mt, some (mi l1), some (mi l2), some (mi l3), some (mi ((T 72 (9 + l3)) * (T 72 ((0 + l1) - l3))))] dX6_raiseWhole_44 rfl rfl ?_
        refine y_iload 46 Y dX6_raiseWhole_46 rfl ?_
        refine y_if 48 90 Y dX6_raiseWhole_48 rfl rfl (fun c => ?_) (fun c => ?_)
        · replace h := h.1 c
          obtain ⟨o12, h⟩ := h
          refine y_iinc 90 Y [some mt, some (mi l1), some (mi l2), some (mi (l3 + 1)), some (mi ((T 72 (9 + l3)) * (T 72 ((0 + l1) - l3))))] dX6_raiseWhole_90 rfl rfl o12 ?_
          refine y_goto 93 19 Y dX6_raiseWhole_93 rfl rfl ?_
          obtain ⟨n1, hn, h⟩ := h
          exact Wk 19 _ [some mt, some (mi l1), some (mi l2), some (mi (l3 + 1)), none] _ _ ⟨rfl, ⟨rfl, ⟨rfl, ⟨rfl, trivial⟩⟩⟩⟩ (hIc n1 _ _ _ _ hn (Or.inr (Or.inl (⟨rfl, _, _, _, rfl, rfl, h⟩))))
        · replace h := h.2 c
          refine y_aload_n 51 Y dX6_raiseWhole_51 rfl ?_
          refine y_iconst 52 Y dX6_raiseWhole_52 rfl ?_
          refine y_bipush 53 Y dX6_raiseWhole_53 rfl ?_
          refine y_iload_n 55 Y dX6_raiseWhole_55 rfl ?_
          refine y_iadd 56 Y dX6_raiseWhole_56 o4 ?_
          refine y_call 57 Y (as := [mi 2, mi (9 + l3)]) [] dX6_raiseWhole_57 rfl rfl rfl rfl rfl h (fun r S13 hq hI _ => ?_)
          obtain ⟨rfl, h⟩ := Qv_ok hq
          replace h := h hI
          clear hq
          refine y_aload_n 60 Y dX6_raiseWhole_60 rfl ?_
          refine y_iconst 61 Y dX6_raiseWhole_61 rfl ?_
          refine y_iconst 62 Y dX6_raiseWhole_62 rfl ?_
          refine y_iload_n 63 Y dX6_raiseWhole_63 rfl ?_
          refine y_iadd 64 Y dX6_raiseWhole_64 o7 ?_
          refine y_iload_n 65 Y dX6_raiseWhole_65 rfl ?_
          refine y_isub 66 Y dX6_raiseWhole_66 o8 ?_
          refine y_call 67 Y (as := [mi 3, mi ((0 + l1) - l3)]) [] dX6_raiseWhole_67 rfl rfl rfl rfl rfl h (fun r S14 hq hI _ => ?_)
          obtain ⟨rfl, h⟩ := Qv_ok hq
          replace h := h hI
          clear hq
          refine y_aload_n 70 Y dX6_raiseWhole_70 rfl ?_
          refine y_bipush 71 Y dX6_raiseWhole_71 rfl ?_
          refine y_iconst 73 Y dX6_raiseWhole_73 rfl ?_
          refine y_iconst 74 Y dX6_raiseWhole_74 rfl ?_
          refine y_call 75 Y (as := [mi 7, mi 2, mi 3]) [] dX6_raiseWhole_75 rfl rfl rfl rfl rfl h (fun r S15 hq hI _ => ?_)
          obtain ⟨rfl, h⟩ := Qv_ok hq
          replace h := h hI
          clear hq
          refine y_aload_n 78 Y dX6_raiseWhole_78 rfl ?_
          refine y_bipush 79 Y dX6_raiseWhole_79 rfl ?_
          refine y_iload_n 81 Y dX6_raiseWhole_81 rfl ?_
          refine y_bipush 82 Y dX6_raiseWhole_82 rfl ?_
          refine y_iload 84 Y dX6_raiseWhole_84 rfl ?_
          refine y_call 86 Y (as := [mi 6, mi l2, mi 7, mi ((T 72 (9 + l3)) * (T 72 ((0 + l1) - l3)))]) [] dX6_raiseWhole_86 rfl rfl rfl rfl rfl h (fun r S16 hq hI hr => ?_)
          obtain ⟨v17, rfl, h⟩ := Qi_ok hq
          replace h := h hI (mokI (hr _ rfl))
          clear hq hr
          refine y_istore_n 89 Y [some mt, some (mi l1), some (mi v17), some (mi l3), some (mi ((T 72 (9 + l3)) * (T 72 ((0 + l1) - l3))))] dX6_raiseWhole_89 rfl rfl ?_
          obtain ⟨o18, h⟩ := h
          refine y_iinc 90 Y [some mt, some (mi l1), some (mi v17), some (mi (l3 + 1)), some (mi ((T 72 (9 + l3)) * (T 72 ((0 + l1) - l3))))] dX6_raiseWhole_90 rfl rfl o18 ?_
          refine y_goto 93 19 Y dX6_raiseWhole_93 rfl rfl ?_
          obtain ⟨n1, hn, h⟩ := h
          exact Wk 19 _ [some mt, some (mi l1), some (mi v17), some (mi (l3 + 1)), none] _ _ ⟨rfl, ⟨rfl, ⟨rfl, ⟨rfl, trivial⟩⟩⟩⟩ (hIc n1 _ _ _ _ hn (Or.inr (Or.inl (⟨rfl, _, _, _, rfl, rfl, h⟩))))
    · have h := h115 n l1 T hS (hL 1 _ rfl) hi
      clear hL hi h2 h19 h115
      refine y_iload_n 115 Y dX6_raiseWhole_115 rfl ?_
      refine y_bipush 116 Y dX6_raiseWhole_116 rfl ?_
      refine y_icmp 118 154 Y dX6_raiseWhole_118 rfl rfl (fun c => ?_) (fun c => ?_)
      · replace h := h.1 c
        exact y_ret 154 Y dX6_raiseWhole_154 rfl h
      · replace h := h.2 c
        refine y_aload_n 121 Y dX6_raiseWhole_121 rfl ?_
        refine y_iconst 122 Y dX6_raiseWhole_122 rfl ?_
        refine y_bipush 123 Y dX6_raiseWhole_123 rfl ?_
        refine y_iload_n 125 Y dX6_raiseWhole_125 rfl ?_
        obtain ⟨o1, h⟩ := h
        refine y_iadd 126 Y dX6_raiseWhole_126 o1 ?_
        refine y_call 127 Y (as := [mi 2, mi (18 + l1)]) [] dX6_raiseWhole_127 rfl rfl rfl rfl rfl h (fun r S2 hq hI _ => ?_)
        obtain ⟨rfl, h⟩ := Qv_ok hq
        replace h := h hI
        clear hq
        refine y_aload_n 130 Y dX6_raiseWhole_130 rfl ?_
        refine y_bipush 131 Y dX6_raiseWhole_131 rfl ?_
        refine y_iload_n 133 Y dX6_raiseWhole_133 rfl ?_
        obtain ⟨o3, h⟩ := h
        refine y_iadd 134 Y dX6_raiseWhole_134 o3 ?_
        refine y_iconst 135 Y dX6_raiseWhole_135 rfl ?_
        refine y_aload_n 136 Y dX6_raiseWhole_136 rfl ?_
        refine y_geta 137 Y 72 dX6_raiseWhole_137 rfl rfl ?_
        refine y_bipush 140 Y dX6_raiseWhole_140 rfl ?_
        refine y_iload_n 142 Y dX6_raiseWhole_142 rfl ?_
        refine y_iadd 143 Y dX6_raiseWhole_143 o1 ?_
        obtain ⟨o4, h⟩ := h
        obtain ⟨o5, h⟩ := h
        refine y_iald 144 Y dX6_raiseWhole_144 rfl rfl o4 o5 (fun _ => ?_)
        refine y_call 145 Y (as := [mi (9 + l1), mi 2, mi (S2 72 (18 + l1))]) [] dX6_raiseWhole_145 rfl rfl rfl rfl rfl h (fun r S6 hq hI _ => ?_)
        obtain ⟨rfl, h⟩ := Qv_ok hq
        replace h := h hI
        clear hq
        obtain ⟨o7, h⟩ := h
        refine y_iinc 148 Y [some mt, some (mi (l1 + 1)), none, none, none] dX6_raiseWhole_148 rfl rfl o7 ?_
        refine y_goto 151 115 Y dX6_raiseWhole_151 rfl rfl ?_
        obtain ⟨n1, hn, h⟩ := h
        exact Wk 115 _ [some mt, some (mi (l1 + 1)), none, none, none] _ _ ⟨rfl, ⟨rfl, trivial⟩⟩ (hIc n1 _ _ _ _ hn (Or.inr (Or.inr ((⟨rfl, _, rfl, rfl, h⟩)))))
set_option maxHeartbeats 4000000 in
theorem of_sign {g : mG} {S : mS} {a1 a2 : Int} {Qp : Option mV → mS → Prop}
    (hE : mI S → (-2147483648 ≤ a1 ∧ a1 ≤ 2147483647) → (-2147483648 ≤ a2 ∧ a2 ≤ 2147483647) → CX_rankOf g [mt, mi a2, mi 2] S (Qi fun v2 S1 => mI S1 → (-2147483648 ≤ v2 ∧ v2 ≤ 2147483647) → CX_rankOf g [mt, mi a2, mi 1] S1 (Qi fun v4 S3 => mI S3 → (-2147483648 ≤ v4 ∧ v4 ≤ 2147483647) → ((v2 ≤ 0) → ((v4 ≤ 0) → ((0 < v2) → Qp (some (mi 1)) S3) ∧ (¬ (0 < v2) → ((v4 ≤ 0) → Qp (some (mi 0)) S3) ∧ (¬ (v4 ≤ 0) → Qp (some (mi 1)) S3))) ∧ (¬ (v4 ≤ 0) → CX_reduce g [mt, mi v4] S3 (Qv fun S5 => mI S5 → CX_does g [mt, mi 3, mi a2, mi 1, mi 1] S5 (Qv fun S6 => mI S6 → ((0 < v2) → Qp (some (mi 1)) S6) ∧ (¬ (0 < v2) → ((v4 ≤ 0) → Qp (some (mi 0)) S6) ∧ (¬ (v4 ≤ 0) → Qp (some (mi 1)) S6)))))) ∧ (¬ (v2 ≤ 0) → CX_reduce g [mt, mi v2] S3 (Qv fun S7 => mI S7 → CX_signOf g [mi a2] S7 (Qi fun v9 S8 => mI S8 → (-2147483648 ≤ v9 ∧ v9 ≤ 2147483647) → (-2147483648 ≤ ((3 * v9) : Int) ∧ (3 * v9) ≤ 2147483647) ∧ (-2147483648 ≤ (((3 * v9) + 2) : Int) ∧ ((3 * v9) + 2) ≤ 2147483647) ∧ (0 ≤ ((3 * v9) + 2)) ∧ (((3 * v9) + 2) < 48) ∧ (((S8 16 ((3 * v9) + 2)) ≠ 2) → CX_signOf g [mi a2] S8 (Qi fun v15 S14 => mI S14 → (-2147483648 ≤ v15 ∧ v15 ≤ 2147483647) → (-2147483648 ≤ ((3 * v15) : Int) ∧ (3 * v15) ≤ 2147483647) ∧ (-2147483648 ≤ (((3 * v15) + 2) : Int) ∧ ((3 * v15) + 2) ≤ 2147483647) ∧ (0 ≤ ((3 * v15) + 2)) ∧ (((3 * v15) + 2) < 48) ∧ (((S14 16 ((3 * v15) + 2)) ≠ 1) → (-2147483648 ≤ ((v2 + 1) : Int) ∧ (v2 + 1) ≤ 2147483647) ∧ CX_opens g [mt, mi 3, mi a2, mi (v2 + 1)] S14 (Qv fun S21 => mI S21 → ((0 < v2) → Qp (some (mi 1)) S21) ∧ (¬ (0 < v2) → ((v4 ≤ 0) → Qp (some (mi 0)) S21) ∧ (¬ (v4 ≤ 0) → Qp (some (mi 1)) S21)))) ∧ (¬ ((S14 16 ((3 * v15) + 2)) ≠ 1) → CX_opens g [mt, mi 3, mi a2, mi v2] S14 (Qv fun S22 => mI S22 → ((0 < v2) → Qp (some (mi 1)) S22) ∧ (¬ (0 < v2) → ((v4 ≤ 0) → Qp (some (mi 0)) S22) ∧ (¬ (v4 ≤ 0) → Qp (some (mi 1)) S22)))))) ∧ (¬ ((S8 16 ((3 * v9) + 2)) ≠ 2) → CX_isNeither g [mt, mi v2] S8 (Qi fun v24 S23 => mI S23 → (-2147483648 ≤ v24 ∧ v24 ≤ 2147483647) → ((v24 = 0) → CX_signOf g [mi a2] S23 (Qi fun v26 S25 => mI S25 → (-2147483648 ≤ v26 ∧ v26 ≤ 2147483647) → (-2147483648 ≤ ((3 * v26) : Int) ∧ (3 * v26) ≤ 2147483647) ∧ (-2147483648 ≤ (((3 * v26) + 2) : Int) ∧ ((3 * v26) + 2) ≤ 2147483647) ∧ (0 ≤ ((3 * v26) + 2)) ∧ (((3 * v26) + 2) < 48) ∧ (((S25 16 ((3 * v26) + 2)) ≠ 1) → (-2147483648 ≤ ((v2 + 1) : Int) ∧ (v2 + 1) ≤ 2147483647) ∧ CX_opens g [mt, mi 3, mi a2, mi (v2 + 1)] S25 (Qv fun S32 => mI S32 → ((0 < v2) → Qp (some (mi 1)) S32) ∧ (¬ (0 < v2) → ((v4 ≤ 0) → Qp (some (mi 0)) S32) ∧ (¬ (v4 ≤ 0) → Qp (some (mi 1)) S32)))) ∧ (¬ ((S25 16 ((3 * v26) + 2)) ≠ 1) → CX_opens g [mt, mi 3, mi a2, mi v2] S25 (Qv fun S33 => mI S33 → ((0 < v2) → Qp (some (mi 1)) S33) ∧ (¬ (0 < v2) → ((v4 ≤ 0) → Qp (some (mi 0)) S33) ∧ (¬ (v4 ≤ 0) → Qp (some (mi 1)) S33)))))) ∧ (¬ (v24 = 0) → Qp (some (mi 0)) S23)))))))))
    : CX_sign g [mt, mi a1, mi a2] S Qp := by
  refine cm_y ⟨by decide, rfl⟩ (by simp [mcat]) (by simp) (fun _ _ _ _ _ => False) ?_ ?_
  · intro ha hS P Y Wk hIc
    have h := hE hS (mokI (ha (mi a1) (by simp))) (mokI (ha (mi a2) (by simp)))
    clear hE ha
    refine y_aload_n 0 Y dX6_sign_0 rfl ?_
    refine y_iload_n 1 Y dX6_sign_1 rfl ?_
    refine y_iconst 2 Y dX6_sign_2 rfl ?_
    refine y_call 3 Y (as := [mi a2, mi 2]) [] dX6_sign_3 rfl rfl rfl rfl rfl h (fun r S1 hq hI hr => ?_)
    obtain ⟨v2, rfl, h⟩ := Qi_ok hq
    replace h := h hI (mokI (hr _ rfl))
    clear hq hr
    refine y_istore_n 6 Y [some mt, some (mi a1), some (mi a2), some (mi v2), none] dX6_sign_6 rfl rfl ?_
    refine y_aload_n 7 Y dX6_sign_7 rfl ?_
    refine y_iload_n 8 Y dX6_sign_8 rfl ?_
    refine y_iconst 9 Y dX6_sign_9 rfl ?_
    refine y_call 10 Y (as := [mi a2, mi 1]) [] dX6_sign_10 rfl rfl rfl rfl rfl h (fun r S3 hq hI hr => ?_)
    obtain ⟨v4, rfl, h⟩ := Qi_ok hq
    replace h := h hI (mokI (hr _ rfl))
    clear hq hr
    refine y_istore 13 Y [some mt, some (mi a1), some (mi a2), some (mi v2), some (mi v4)] dX6_sign_13 rfl rfl ?_
    refine y_iload_n 15 Y dX6_sign_15 rfl ?_
    refine y_if 16 84 Y dX6_sign_16 rfl rfl (fun c => ?_) (fun c => ?_)
    · replace h := h.1 c
      refine y_iload 84 Y dX6_sign_84 rfl ?_
      refine y_if 86 103 Y dX6_sign_86 rfl rfl (fun c => ?_) (fun c => ?_)
      · replace h := h.1 c
        refine y_iload_n 103 Y dX6_sign_103 rfl ?_
        refine y_if 104 112 Y dX6_sign_104 rfl rfl (fun c => ?_) (fun c => ?_)
        · replace h := h.1 c
          refine y_iconst 112 Y dX6_sign_112 rfl ?_
          refine y_goto 113 117 Y dX6_sign_113 rfl rfl ?_
          exact y_zret 117 Y dX6_sign_117 rfl (by decide) h
        · replace h := h.2 c
          refine y_iload 107 Y dX6_sign_107 rfl ?_
          refine y_if 109 116 Y dX6_sign_109 rfl rfl (fun c => ?_) (fun c => ?_)
          · replace h := h.1 c
            refine y_iconst 116 Y dX6_sign_116 rfl ?_
            exact y_zret 117 Y dX6_sign_117 rfl (by decide) h
          · replace h := h.2 c
            refine y_iconst 112 Y dX6_sign_112 rfl ?_
            refine y_goto 113 117 Y dX6_sign_113 rfl rfl ?_
            exact y_zret 117 Y dX6_sign_117 rfl (by decide) h
      · replace h := h.2 c
        refine y_aload_n 89 Y dX6_sign_89 rfl ?_
        refine y_iload 90 Y dX6_sign_90 rfl ?_
        refine y_call 92 Y (as := [mi v4]) [] dX6_sign_92 rfl rfl rfl rfl rfl h (fun r S5 hq hI _ => ?_)
        obtain ⟨rfl, h⟩ := Qv_ok hq
        replace h := h hI
        clear hq
        refine y_aload_n 95 Y dX6_sign_95 rfl ?_
        refine y_iconst 96 Y dX6_sign_96 rfl ?_
        refine y_iload_n 97 Y dX6_sign_97 rfl ?_
        refine y_iconst 98 Y dX6_sign_98 rfl ?_
        refine y_iconst 99 Y dX6_sign_99 rfl ?_
        refine y_call 100 Y (as := [mi 3, mi a2, mi 1, mi 1]) [] dX6_sign_100 rfl rfl rfl rfl rfl h (fun r S6 hq hI _ => ?_)
        obtain ⟨rfl, h⟩ := Qv_ok hq
        replace h := h hI
        clear hq
        refine y_iload_n 103 Y dX6_sign_103 rfl ?_
        refine y_if 104 112 Y dX6_sign_104 rfl rfl (fun c => ?_) (fun c => ?_)
        · replace h := h.1 c
          refine y_iconst 112 Y dX6_sign_112 rfl ?_
          refine y_goto 113 117 Y dX6_sign_113 rfl rfl ?_
          exact y_zret 117 Y dX6_sign_117 rfl (by decide) h
        · replace h := h.2 c
          refine y_iload 107 Y dX6_sign_107 rfl ?_
          refine y_if 109 116 Y dX6_sign_109 rfl rfl (fun c => ?_) (fun c => ?_)
          · replace h := h.1 c
            refine y_iconst 116 Y dX6_sign_116 rfl ?_
            exact y_zret 117 Y dX6_sign_117 rfl (by decide) h
          · replace h := h.2 c
            refine y_iconst 112 Y dX6_sign_112 rfl ?_
            refine y_goto 113 117 Y dX6_sign_113 rfl rfl ?_
            exact y_zret 117 Y dX6_sign_117 rfl (by decide) h
    · replace h := h.2 c
      refine y_aload_n 19 Y dX6_sign_19 rfl ?_
      refine y_iload_n 20 Y dX6_sign_20 rfl ?_
      refine y_call 21 Y (as := [mi v2]) [] dX6_sign_21 rfl rfl rfl rfl rfl h (fun r S7 hq hI _ => ?_)
      obtain ⟨rfl, h⟩ := Qv_ok hq
      replace h := h hI
      clear hq
      refine y_aload_n 24 Y dX6_sign_24 rfl ?_
      refine y_geta 25 Y 16 dX6_sign_25 rfl rfl ?_
      refine y_iconst 28 Y dX6_sign_28 rfl ?_
      refine y_iload_n 29 Y dX6_sign_29 rfl ?_
      refine y_calls 30 Y (as := [mi a2]) [mi 3, mr 16] dX6_sign_30 rfl rfl rfl rfl rfl h (fun r S8 hq hI hr => ?_)
      obtain ⟨v9, rfl, h⟩ := Qi_ok hq
      replace h := h hI (mokI (hr _ rfl))
      clear hq hr
      obtain ⟨o10, h⟩ := h
      refine y_imul 33 Y dX6_sign_33 o10 ?_
      refine y_iconst 34 Y dX6_sign_34 rfl ?_
      obtain ⟨o11, h⟩ := h
      refine y_iadd 35 Y dX6_sign_35 o11 ?_
      obtain ⟨o12, h⟩ := h
      obtain ⟨o13, h⟩ := h
      refine y_iald 36 Y dX6_sign_36 rfl rfl o12 o13 (fun _ => ?_)
      refine y_iconst 37 Y dX6_sign_37 rfl ?_
      refine y_icmp 38 51 Y dX6_sign_38 rfl rfl (fun c => ?_) (fun c => ?_)
      · replace h := h.1 c
        refine y_aload_n 51 Y dX6_sign_51 rfl ?_
        refine y_iconst 52 Y dX6_sign_52 rfl ?_
        refine y_iload_n 53 Y dX6_sign_53 rfl ?_
        refine y_aload_n 54 Y dX6_sign_54 rfl ?_
        refine y_geta 55 Y 16 dX6_sign_55 rfl rfl ?_
        refine y_iconst 58 Y dX6_sign_58 rfl ?_
        refine y_iload_n 59 Y dX6_sign_59 rfl ?_
        refine y_calls 60 Y (as := [mi a2]) [mi 3, mr 16, mi a2, mi 3, mt] dX6_sign_60 rfl rfl rfl rfl rfl h (fun r S14 hq hI hr => ?_)
        obtain ⟨v15, rfl, h⟩ := Qi_ok hq
        replace h := h hI (mokI (hr _ rfl))
        clear hq hr
        obtain ⟨o16, h⟩ := h
        refine y_imul 63 Y dX6_sign_63 o16 ?_
        refine y_iconst 64 Y dX6_sign_64 rfl ?_
        obtain ⟨o17, h⟩ := h
        refine y_iadd 65 Y dX6_sign_65 o17 ?_
        obtain ⟨o18, h⟩ := h
        obtain ⟨o19, h⟩ := h
        refine y_iald 66 Y dX6_sign_66 rfl rfl o18 o19 (fun _ => ?_)
        refine y_iconst 67 Y dX6_sign_67 rfl ?_
        refine y_icmp 68 75 Y dX6_sign_68 rfl rfl (fun c => ?_) (fun c => ?_)
        · replace h := h.1 c
          refine y_iload_n 75 Y dX6_sign_75 rfl ?_
          refine y_iconst 76 Y dX6_sign_76 rfl ?_
          obtain ⟨o20, h⟩ := h
          refine y_iadd 77 Y dX6_sign_77 o20 ?_
          refine y_call 78 Y (as := [mi 3, mi a2, mi (v2 + 1)]) [] dX6_sign_78 rfl rfl rfl rfl rfl h (fun r S21 hq hI _ => ?_)
          obtain ⟨rfl, h⟩ := Qv_ok hq
          replace h := h hI
          clear hq
          refine y_goto 81 103 Y dX6_sign_81 rfl rfl ?_
          refine y_iload_n 103 Y dX6_sign_103 rfl ?_
          refine y_if 104 112 Y dX6_sign_104 rfl rfl (fun c => ?_) (fun c => ?_)
          · replace h := h.1 c
            refine y_iconst 112 Y dX6_sign_112 rfl ?_
            refine y_goto 113 117 Y dX6_sign_113 rfl rfl ?_
            exact y_zret 117 Y dX6_sign_117 rfl (by decide) h
          · replace h := h.2 c
            refine y_iload 107 Y dX6_sign_107 rfl ?_
            refine y_if 109 116 Y dX6_sign_109 rfl rfl (fun c => ?_) (fun c => ?_)
            · replace h := h.1 c
              refine y_iconst 116 Y dX6_sign_116 rfl ?_
              exact y_zret 117 Y dX6_sign_117 rfl (by decide) h
            · replace h := h.2 c
              refine y_iconst 112 Y dX6_sign_112 rfl ?_
              refine y_goto 113 117 Y dX6_sign_113 rfl rfl ?_
              exact y_zret 117 Y dX6_sign_117 rfl (by decide) h
        · replace h := h.2 c
          refine y_iload_n 71 Y dX6_sign_71 rfl ?_
          refine y_goto 72 78 Y dX6_sign_72 rfl rfl ?_
          refine y_call 78 Y (as := [mi 3, mi a2, mi v2]) [] dX6_sign_78 rfl rfl rfl rfl rfl h (fun r S22 hq hI _ => ?_)
          obtain ⟨rfl, h⟩ := Qv_ok hq
          replace h := h hI
          clear hq
          refine y_goto 81 103 Y dX6_sign_81 rfl rfl ?_
          refine y_iload_n 103 Y dX6_sign_103 rfl ?_
          refine y_if 104 112 Y dX6_sign_104 rfl rfl (fun c => ?_) (fun c => ?_)
          · replace h := h.1 c
            refine y_iconst 112 Y dX6_sign_112 rfl ?_
            refine y_goto 113 117 Y dX6_sign_113 rfl rfl ?_
            exact y_zret 117 Y dX6_sign_117 rfl (by decide) h
          · replace h := h.2 c
            refine y_iload 107 Y dX6_sign_107 rfl ?_
            refine y_if 109 116 Y dX6_sign_109 rfl rfl (fun c => ?_) (fun c => ?_)
            · replace h := h.1 c
              refine y_iconst 116 Y dX6_sign_116 rfl ?_
              exact y_zret 117 Y dX6_sign_117 rfl (by decide) h
            · replace h := h.2 c
              refine y_iconst 112 Y dX6_sign_112 rfl ?_
              refine y_goto 113 117 Y dX6_sign_113 rfl rfl ?_
              exact y_zret 117 Y dX6_sign_117 rfl (by decide) h
      · replace h := h.2 c
        refine y_aload_n 41 Y dX6_sign_41 rfl ?_
        refine y_iload_n 42 Y dX6_sign_42 rfl ?_
        refine y_call 43 Y (as := [mi v2]) [] dX6_sign_43 rfl rfl rfl rfl rfl h (fun r S23 hq hI hr => ?_)
        obtain ⟨v24, rfl, h⟩ := Qi_ok hq
        replace h := h hI (mokI (hr _ rfl))
        clear hq hr
        refine y_if 46 51 Y dX6_sign_46 rfl rfl (fun c => ?_) (fun c => ?_)
        · replace h := h.1 c
          refine y_aload_n 51 Y dX6_sign_51 rfl ?_
          refine y_iconst 52 Y dX6_sign_52 rfl ?_
          refine y_iload_n 53 Y dX6_sign_53 rfl ?_
          refine y_aload_n 54 Y dX6_sign_54 rfl ?_
          refine y_geta 55 Y 16 dX6_sign_55 rfl rfl ?_
          refine y_iconst 58 Y dX6_sign_58 rfl ?_
          refine y_iload_n 59 Y dX6_sign_59 rfl ?_
          refine y_calls 60 Y (as := [mi a2]) [mi 3, mr 16, mi a2, mi 3, mt] dX6_sign_60 rfl rfl rfl rfl rfl h (fun r S25 hq hI hr => ?_)
          obtain ⟨v26, rfl, h⟩ := Qi_ok hq
          replace h := h hI (mokI (hr _ rfl))
          clear hq hr
          obtain ⟨o27, h⟩ := h
          refine y_imul 63 Y dX6_sign_63 o27 ?_
          refine y_iconst 64 Y dX6_sign_64 rfl ?_
          obtain ⟨o28, h⟩ := h
          refine y_iadd 65 Y dX6_sign_65 o28 ?_
          obtain ⟨o29, h⟩ := h
          obtain ⟨o30, h⟩ := h
          refine y_iald 66 Y dX6_sign_66 rfl rfl o29 o30 (fun _ => ?_)
          refine y_iconst 67 Y dX6_sign_67 rfl ?_
          refine y_icmp 68 75 Y dX6_sign_68 rfl rfl (fun c => ?_) (fun c => ?_)
          · replace h := h.1 c
            refine y_iload_n 75 Y dX6_sign_75 rfl ?_
            refine y_iconst 76 Y dX6_sign_76 rfl ?_
            obtain ⟨o31, h⟩ := h
            refine y_iadd 77 Y dX6_sign_77 o31 ?_
            refine y_call 78 Y (as := [mi 3, mi a2, mi (v2 + 1)]) [] dX6_sign_78 rfl rfl rfl rfl rfl h (fun r S32 hq hI _ => ?_)
            obtain ⟨rfl, h⟩ := Qv_ok hq
            replace h := h hI
            clear hq
            refine y_goto 81 103 Y dX6_sign_81 rfl rfl ?_
            refine y_iload_n 103 Y dX6_sign_103 rfl ?_
            refine y_if 104 112 Y dX6_sign_104 rfl rfl (fun c => ?_) (fun c => ?_)
            · replace h := h.1 c
              refine y_iconst 112 Y dX6_sign_112 rfl ?_
              refine y_goto 113 117 Y dX6_sign_113 rfl rfl ?_
              exact y_zret 117 Y dX6_sign_117 rfl (by decide) h
            · replace h := h.2 c
              refine y_iload 107 Y dX6_sign_107 rfl ?_
              refine y_if 109 116 Y dX6_sign_109 rfl rfl (fun c => ?_) (fun c => ?_)
              · replace h := h.1 c
                refine y_iconst 116 Y dX6_sign_116 rfl ?_
                exact y_zret 117 Y dX6_sign_117 rfl (by decide) h
              · replace h := h.2 c
                refine y_iconst 112 Y dX6_sign_112 rfl ?_
                refine y_goto 113 117 Y dX6_sign_113 rfl rfl ?_
                exact y_zret 117 Y dX6_sign_117 rfl (by decide) h
          · replace h := h.2 c
            refine y_iload_n 71 Y dX6_sign_71 rfl ?_
            refine y_goto 72 78 Y dX6_sign_72 rfl rfl ?_
            refine y_call 78 Y (as := [mi 3, mi a2, mi v2]) [] dX6_sign_78 rfl rfl rfl rfl rfl h (fun r S33 hq hI _ => ?_)
            obtain ⟨rfl, h⟩ := Qv_ok hq
            replace h := h hI
            clear hq
            refine y_goto 81 103 Y dX6_sign_81 rfl rfl ?_
            refine y_iload_n 103 Y dX6_sign_103 rfl ?_
            refine y_if 104 112 Y dX6_sign_104 rfl rfl (fun c => ?_) (fun c => ?_)
            · replace h := h.1 c
              refine y_iconst 112 Y dX6_sign_112 rfl ?_
              refine y_goto 113 117 Y dX6_sign_113 rfl rfl ?_
              exact y_zret 117 Y dX6_sign_117 rfl (by decide) h
            · replace h := h.2 c
              refine y_iload 107 Y dX6_sign_107 rfl ?_
              refine y_if 109 116 Y dX6_sign_109 rfl rfl (fun c => ?_) (fun c => ?_)
              · replace h := h.1 c
                refine y_iconst 116 Y dX6_sign_116 rfl ?_
                exact y_zret 117 Y dX6_sign_117 rfl (by decide) h
              · replace h := h.2 c
                refine y_iconst 112 Y dX6_sign_112 rfl ?_
                refine y_goto 113 117 Y dX6_sign_113 rfl rfl ?_
                exact y_zret 117 Y dX6_sign_117 rfl (by decide) h
        · replace h := h.2 c
          refine y_iconst 49 Y dX6_sign_49 rfl ?_
          exact y_zret 50 Y dX6_sign_50 rfl (by decide) h
  · intro n pc L st T hi
    exact hi.elim
set_option maxHeartbeats 4000000 in
theorem of_small {g : mG} {S : mS} {a1 : Int} {Qp : Option mV → mS → Prop}
    (hE : mI S → (-2147483648 ≤ a1 ∧ a1 ≤ 2147483647) → CX_loadNumerator g [mt, mi 2, mi a1] S (Qv fun S1 => mI S1 → CX_bits g [mt, mi 2] S1 (Qi fun v3 S2 => mI S2 → (-2147483648 ≤ v3 ∧ v3 ≤ 2147483647) → ((v3 ≤ 30) → (((S2 2 2) ≤ 0) → (((S2 2 2) ≤ 1) → CX_sign_2 g [mt, mi a1] S2 (Qi fun v5 S4 => mI S4 → (-2147483648 ≤ v5 ∧ v5 ≤ 2147483647) → ((0 ≤ v5) → Qp (some (mi (0 + 0))) S4) ∧ (¬ (0 ≤ v5) → Qp (some (mi (-(0 + 0)))) S4))) ∧ (¬ ((S2 2 2) ≤ 1) → (0 ≤ (S2 1 881)) ∧ (-2147483648 ≤ (((S2 1 881) * 65536) : Int) ∧ ((S2 1 881) * 65536) ≤ 2147483647) ∧ (-2147483648 ≤ ((0 + ((S2 1 881) * 65536)) : Int) ∧ (0 + ((S2 1 881) * 65536)) ≤ 2147483647) ∧ CX_sign_2 g [mt, mi a1] S2 (Qi fun v10 S9 => mI S9 → (-2147483648 ≤ v10 ∧ v10 ≤ 2147483647) → ((0 ≤ v10) → Qp (some (mi (0 + ((S2 1 881) * 65536)))) S9) ∧ (¬ (0 ≤ v10) → (-2147483648 ≤ ((-(0 + ((S2 1 881) * 65536))) : Int) ∧ (-(0 + ((S2 1 881) * 65536))) ≤ 2147483647) ∧ Qp (some (mi (-(0 + ((S2 1 881) * 65536))))) S9)))) ∧ (¬ ((S2 2 2) ≤ 0) → (((S2 2 2) ≤ 1) → (-2147483648 ≤ (((S2 1 880) + 0) : Int) ∧ ((S2 1 880) + 0) ≤ 2147483647) ∧ CX_sign_2 g [mt, mi a1] S2 (Qi fun v14 S13 => mI S13 → (-2147483648 ≤ v14 ∧ v14 ≤ 2147483647) → ((0 ≤ v14) → Qp (some (mi ((S2 1 880) + 0))) S13) ∧ (¬ (0 ≤ v14) → (-2147483648 ≤ ((-((S2 1 880) + 0)) : Int) ∧ (-((S2 1 880) + 0)) ≤ 2147483647) ∧ Qp (some (mi (-((S2 1 880) + 0)))) S13))) ∧ (¬ ((S2 2 2) ≤ 1) → (0 ≤ (S2 1 881)) ∧ (-2147483648 ≤ (((S2 1 881) * 65536) : Int) ∧ ((S2 1 881) * 65536) ≤ 2147483647) ∧ (-2147483648 ≤ (((S2 1 880) + ((S2 1 881) * 65536)) : Int) ∧ ((S2 1 880) + ((S2 1 881) * 65536)) ≤ 2147483647) ∧ CX_sign_2 g [mt, mi a1] S2 (Qi fun v20 S19 => mI S19 → (-2147483648 ≤ v20 ∧ v20 ≤ 2147483647) → ((0 ≤ v20) → Qp (some (mi ((S2 1 880) + ((S2 1 881) * 65536)))) S19) ∧ (¬ (0 ≤ v20) → (-2147483648 ≤ ((-((S2 1 880) + ((S2 1 881) * 65536))) : Int) ∧ (-((S2 1 880) + ((S2 1 881) * 65536))) ≤ 2147483647) ∧ Qp (some (mi (-((S2 1 880) + ((S2 1 881) * 65536))))) S19))))) ∧ (¬ (v3 ≤ 30) → CX_sign_2 g [mt, mi a1] S2 (Qi fun v23 S22 => mI S22 → (-2147483648 ≤ v23 ∧ v23 ≤ 2147483647) → ((0 ≤ v23) → Qp (some (mi 1073741824)) S22) ∧ (¬ (0 ≤ v23) → Qp (some (mi (-1073741824))) S22))))))
    : CX_small g [mt, mi a1] S Qp := by
  refine cm_y ⟨by decide, rfl⟩ (by simp [mcat]) (by simp) (fun _ _ _ _ _ => False) ?_ ?_
  · intro ha hS P Y Wk hIc
    have h := hE hS (mokI (ha (mi a1) (by simp)))
    clear hE ha
    refine y_aload_n 0 Y dX6_small_0 rfl ?_
    refine y_iconst 1 Y dX6_small_1 rfl ?_
    refine y_iload_n 2 Y dX6_small_2 rfl ?_
    refine y_call 3 Y (as := [mi 2, mi a1]) [] dX6_small_3 rfl rfl rfl rfl rfl h (fun r S1 hq hI _ => ?_)
    obtain ⟨rfl, h⟩ := Qv_ok hq
    replace h := h hI
    clear hq
    refine y_aload_n 6 Y dX6_small_6 rfl ?_
    refine y_iconst 7 Y dX6_small_7 rfl ?_
    refine y_call 8 Y (as := [mi 2]) [] dX6_small_8 rfl rfl rfl rfl rfl h (fun r S2 hq hI hr => ?_)
    obtain ⟨v3, rfl, h⟩ := Qi_ok hq
    replace h := h hI (mokI (hr _ rfl))
    clear hq hr
    refine y_bipush 11 Y dX6_small_11 rfl ?_
    refine y_icmp 13 21 Y dX6_small_13 rfl rfl (fun c => ?_) (fun c => ?_)
    · replace h := h.1 c
      refine y_aload_n 21 Y dX6_small_21 rfl ?_
      refine y_geta 22 Y 2 dX6_small_22 rfl rfl ?_
      refine y_iconst 25 Y dX6_small_25 rfl ?_
      refine y_iald 26 Y dX6_small_26 rfl rfl (by decide) (by decide) (fun _ => ?_)
      refine y_if 27 41 Y dX6_small_27 rfl rfl (fun c => ?_) (fun c => ?_)
      · replace h := h.1 c
        refine y_iconst 41 Y dX6_small_41 rfl ?_
        refine y_aload_n 42 Y dX6_small_42 rfl ?_
        refine y_geta 43 Y 2 dX6_small_43 rfl rfl ?_
        refine y_iconst 46 Y dX6_small_46 rfl ?_
        refine y_iald 47 Y dX6_small_47 rfl rfl (by decide) (by decide) (fun _ => ?_)
        refine y_iconst 48 Y dX6_small_48 rfl ?_
        refine y_icmp 49 66 Y dX6_small_49 rfl rfl (fun c => ?_) (fun c => ?_)
        · replace h := h.1 c
          refine y_iconst 66 Y dX6_small_66 rfl ?_
          refine y_iadd 67 Y dX6_small_67 (by decide) ?_
          refine y_istore_n 68 Y [some mt, some (mi a1), some (mi (0 + 0))] dX6_small_68 rfl rfl ?_
          refine y_aload_n 69 Y dX6_small_69 rfl ?_
          refine y_iload_n 70 Y dX6_small_70 rfl ?_
          refine y_call 71 Y (as := [mi a1]) [] dX6_small_71 rfl rfl rfl rfl rfl h (fun r S4 hq hI hr => ?_)
          obtain ⟨v5, rfl, h⟩ := Qi_ok hq
          replace h := h hI (mokI (hr _ rfl))
          clear hq hr
          refine y_if 74 82 Y dX6_small_74 rfl rfl (fun c => ?_) (fun c => ?_)
          · replace h := h.1 c
            refine y_iload_n 82 Y dX6_small_82 rfl ?_
            exact y_iret 83 Y dX6_small_83 rfl h
          · replace h := h.2 c
            refine y_iload_n 77 Y dX6_small_77 rfl ?_
            refine y_ineg 78 Y dX6_small_78 (by decide) ?_
            refine y_goto 79 83 Y dX6_small_79 rfl rfl ?_
            exact y_iret 83 Y dX6_small_83 rfl h
        · replace h := h.2 c
          refine y_aload_n 52 Y dX6_small_52 rfl ?_
          refine y_geta 53 Y 1 dX6_small_53 rfl rfl ?_
          refine y_sipush 56 Y dX6_small_56 rfl ?_
          refine y_iald 59 Y dX6_small_59 rfl rfl (by decide) (by decide) (fun _ => ?_)
          refine y_bipush 60 Y dX6_small_60 rfl ?_
          obtain ⟨o6, h⟩ := h
          obtain ⟨o7, h⟩ := h
          refine y_ishl 62 Y 65536 rfl dX6_small_62 o6 (by decide) (by decide) o7 ?_
          refine y_goto 63 67 Y dX6_small_63 rfl rfl ?_
          obtain ⟨o8, h⟩ := h
          refine y_iadd 67 Y dX6_small_67 o8 ?_
          refine y_istore_n 68 Y [some mt, some (mi a1), some (mi (0 + ((S2 1 881) * 65536)))] dX6_small_68 rfl rfl ?_
          refine y_aload_n 69 Y dX6_small_69 rfl ?_
          refine y_iload_n 70 Y dX6_small_70 rfl ?_
          refine y_call 71 Y (as := [mi a1]) [] dX6_small_71 rfl rfl rfl rfl rfl h (fun r S9 hq hI hr => ?_)
          obtain ⟨v10, rfl, h⟩ := Qi_ok hq
          replace h := h hI (mokI (hr _ rfl))
          clear hq hr
          refine y_if 74 82 Y dX6_small_74 rfl rfl (fun c => ?_) (fun c => ?_)
          · replace h := h.1 c
            refine y_iload_n 82 Y dX6_small_82 rfl ?_
            exact y_iret 83 Y dX6_small_83 rfl h
          · replace h := h.2 c
            refine y_iload_n 77 Y dX6_small_77 rfl ?_
            obtain ⟨o11, h⟩ := h
            refine y_ineg 78 Y dX6_small_78 o11 ?_
            refine y_goto 79 83 Y dX6_small_79 rfl rfl ?_
            exact y_iret 83 Y dX6_small_83 rfl h
      · replace h := h.2 c
        refine y_aload_n 30 Y dX6_small_30 rfl ?_
        refine y_geta 31 Y 1 dX6_small_31 rfl rfl ?_
        refine y_sipush 34 Y dX6_small_34 rfl ?_
        refine y_iald 37 Y dX6_small_37 rfl rfl (by decide) (by decide) (fun _ => ?_)
        refine y_goto 38 42 Y dX6_small_38 rfl rfl ?_
        refine y_aload_n 42 Y dX6_small_42 rfl ?_
        refine y_geta 43 Y 2 dX6_small_43 rfl rfl ?_
        refine y_iconst 46 Y dX6_small_46 rfl ?_
        refine y_iald 47 Y dX6_small_47 rfl rfl (by decide) (by decide) (fun _ => ?_)
        refine y_iconst 48 Y dX6_small_48 rfl ?_
        refine y_icmp 49 66 Y dX6_small_49 rfl rfl (fun c => ?_) (fun c => ?_)
        · replace h := h.1 c
          refine y_iconst 66 Y dX6_small_66 rfl ?_
          obtain ⟨o12, h⟩ := h
          refine y_iadd 67 Y dX6_small_67 o12 ?_
          refine y_istore_n 68 Y [some mt, some (mi a1), some (mi ((S2 1 880) + 0))] dX6_small_68 rfl rfl ?_
          refine y_aload_n 69 Y dX6_small_69 rfl ?_
          refine y_iload_n 70 Y dX6_small_70 rfl ?_
          refine y_call 71 Y (as := [mi a1]) [] dX6_small_71 rfl rfl rfl rfl rfl h (fun r S13 hq hI hr => ?_)
          obtain ⟨v14, rfl, h⟩ := Qi_ok hq
          replace h := h hI (mokI (hr _ rfl))
          clear hq hr
          refine y_if 74 82 Y dX6_small_74 rfl rfl (fun c => ?_) (fun c => ?_)
          · replace h := h.1 c
            refine y_iload_n 82 Y dX6_small_82 rfl ?_
            exact y_iret 83 Y dX6_small_83 rfl h
          · replace h := h.2 c
            refine y_iload_n 77 Y dX6_small_77 rfl ?_
            obtain ⟨o15, h⟩ := h
            refine y_ineg 78 Y dX6_small_78 o15 ?_
            refine y_goto 79 83 Y dX6_small_79 rfl rfl ?_
            exact y_iret 83 Y dX6_small_83 rfl h
        · replace h := h.2 c
          refine y_aload_n 52 Y dX6_small_52 rfl ?_
          refine y_geta 53 Y 1 dX6_small_53 rfl rfl ?_
          refine y_sipush 56 Y dX6_small_56 rfl ?_
          refine y_iald 59 Y dX6_small_59 rfl rfl (by decide) (by decide) (fun _ => ?_)
          refine y_bipush 60 Y dX6_small_60 rfl ?_
          obtain ⟨o16, h⟩ := h
          obtain ⟨o17, h⟩ := h
          refine y_ishl 62 Y 65536 rfl dX6_small_62 o16 (by decide) (by decide) o17 ?_
          refine y_goto 63 67 Y dX6_small_63 rfl rfl ?_
          obtain ⟨o18, h⟩ := h
          refine y_iadd 67 Y dX6_small_67 o18 ?_
          refine y_istore_n 68 Y [some mt, some (mi a1), some (mi ((S2 1 880) + ((S2 1 881) * 65536)))] dX6_small_68 rfl rfl ?_
          refine y_aload_n 69 Y dX6_small_69 rfl ?_
          refine y_iload_n 70 Y dX6_small_70 rfl ?_
          refine y_call 71 Y (as := [mi a1]) [] dX6_small_71 rfl rfl rfl rfl rfl h (fun r S19 hq hI hr => ?_)
          obtain ⟨v20, rfl, h⟩ := Qi_ok hq
          replace h := h hI (mokI (hr _ rfl))
          clear hq hr
          refine y_if 74 82 Y dX6_small_74 rfl rfl (fun c => ?_) (fun c => ?_)
          · replace h := h.1 c
            refine y_iload_n 82 Y dX6_small_82 rfl ?_
            exact y_iret 83 Y dX6_small_83 rfl h
          · replace h := h.2 c
            refine y_iload_n 77 Y dX6_small_77 rfl ?_
            obtain ⟨o21, h⟩ := h
            refine y_ineg 78 Y dX6_small_78 o21 ?_
            refine y_goto 79 83 Y dX6_small_79 rfl rfl ?_
            exact y_iret 83 Y dX6_small_83 rfl h
    · replace h := h.2 c
      refine y_ldc 16 Y dX6_small_16 rfl ?_
      refine y_goto 18 68 Y dX6_small_18 rfl rfl ?_
      refine y_istore_n 68 Y [some mt, some (mi a1), some (mi 1073741824)] dX6_small_68 rfl rfl ?_
      refine y_aload_n 69 Y dX6_small_69 rfl ?_
      refine y_iload_n 70 Y dX6_small_70 rfl ?_
      refine y_call 71 Y (as := [mi a1]) [] dX6_small_71 rfl rfl rfl rfl rfl h (fun r S22 hq hI hr => ?_)
      obtain ⟨v23, rfl, h⟩ := Qi_ok hq
      replace h := h hI (mokI (hr _ rfl))
      clear hq hr
      refine y_if 74 82 Y dX6_small_74 rfl rfl (fun c => ?_) (fun c => ?_)
      · replace h := h.1 c
        refine y_iload_n 82 Y dX6_small_82 rfl ?_
        exact y_iret 83 Y dX6_small_83 rfl h
      · replace h := h.2 c
        refine y_iload_n 77 Y dX6_small_77 rfl ?_
        refine y_ineg 78 Y dX6_small_78 (by decide) ?_
        refine y_goto 79 83 Y dX6_small_79 rfl rfl ?_
        exact y_iret 83 Y dX6_small_83 rfl h
  · intro n pc L st T hi
    exact hi.elim
set_option maxHeartbeats 4000000 in
theorem of_wordsOf {g : mG} {S : mS} {a1 : Int} {Qp : Option mV → mS → Prop} (I19 : Nat → Int → mS → Prop)
    (hE : mI S → (-2147483648 ≤ a1 ∧ a1 ≤ 2147483647) → CX_task g [mt, mi 10, mi a1] (mup (mup S 25 0 0) 45 0 0) (Qv fun S1 => mI S1 → (∃ n1, I19 n1 0 S1)))
    (h19 : ∀ (n : Nat) (l2 : Int) (T : mS), mI T → (-2147483648 ≤ l2 ∧ l2 ≤ 2147483647) → I19 n l2 T → (((T 45 0) ≤ 0) → Qp none T) ∧ (¬ ((T 45 0) ≤ 0) → (-2147483648 ≤ (((T 45 0) - 1) : Int) ∧ ((T 45 0) - 1) ≤ 2147483647) ∧ (-2147483648 ≤ ((mup T 45 0 ((T 45 0) - 1)) 45 0) ∧ ((mup T 45 0 ((T 45 0) - 1)) 45 0) ≤ 2147483647 → (0 ≤ ((mup T 45 0 ((T 45 0) - 1)) 45 0)) ∧ (((mup T 45 0 ((T 45 0) - 1)) 45 0) < 600) ∧ (-2147483648 ≤ ((mup T 45 0 ((T 45 0) - 1)) 45 0) ∧ ((mup T 45 0 ((T 45 0) - 1)) 45 0) ≤ 2147483647 → ((T 43 ((mup T 45 0 ((T 45 0) - 1)) 45 0)) = 10 → CX_tasksOf g [mt, mi (T 44 ((mup T 45 0 ((T 45 0) - 1)) 45 0))] (mup T 45 0 ((T 45 0) - 1)) (Qv fun S4 => mI S4 → (∃ n1, n1 < n ∧ I19 n1 l2 S4))) ∧ ((T 43 ((mup T 45 0 ((T 45 0) - 1)) 45 0)) = 11 → (0 ≤ l2) ∧ (l2 < 200) ∧ (-2147483648 ≤ ((l2 + 1) : Int) ∧ (l2 + 1) ≤ 2147483647) ∧ CX_word g [mt, mi 3, mi 40, mi 0] (mup (mup T 45 0 ((T 45 0) - 1)) 46 l2 (T 25 0)) (Qv fun S8 => mI S8 → (∃ n1, n1 < n ∧ I19 n1 (l2 + 1) S8))) ∧ ((T 43 ((mup T 45 0 ((T 45 0) - 1)) 45 0)) = 12 → (-2147483648 ≤ ((l2 + (-1)) : Int) ∧ (l2 + (-1)) ≤ 2147483647) ∧ (0 ≤ (l2 + (-1))) ∧ ((l2 + (-1)) < 200) ∧ (0 ≤ (T 46 (l2 + (-1)))) ∧ ((T 46 (l2 + (-1))) < 1000) ∧ CX_word g [mt, mi 4, mi 41, mi 0] (mup (mup T 45 0 ((T 45 0) - 1)) 23 (T 46 (l2 + (-1))) (T 25 0)) (Qv fun S14 => mI S14 → (∃ n1, n1 < n ∧ I19 n1 (l2 + (-1)) S14))) ∧ ((T 43 ((mup T 45 0 ((T 45 0) - 1)) 45 0)) < 10 ∨ 12 < (T 43 ((mup T 45 0 ((T 45 0) - 1)) 45 0)) → (-2147483648 ≤ ((mup T 45 0 ((T 45 0) - 1)) 45 0) ∧ ((mup T 45 0 ((T 45 0) - 1)) 45 0) ≤ 2147483647 → CX_word g [mt, mi (T 43 ((mup T 45 0 ((T 45 0) - 1)) 45 0)), mi (T 44 ((mup T 45 0 ((T 45 0) - 1)) 45 0)), mi 0] (mup T 45 0 ((T 45 0) - 1)) (Qv fun S15 => mI S15 → (∃ n1, n1 < n ∧ I19 n1 l2 S15))))))))
    : CX_wordsOf g [mt, mi a1] S Qp := by
  refine cm_y ⟨by decide, rfl⟩ (by simp [mcat]) (by simp) (fun n pc L st S => (pc = 19 ∧ ∃ (l2 : Int), L = [some mt, none, some (mi l2), none] ∧ st = [] ∧ I19 n l2 S)) ?_ ?_
  · intro ha hS P Y Wk hIc
    have h := hE hS (mokI (ha (mi a1) (by simp)))
    clear hE ha h19
    refine y_aload_n 0 Y dX6_wordsOf_0 rfl ?_
    refine y_iconst 1 Y dX6_wordsOf_1 rfl ?_
    refine y_putf 2 Y 25 dX6_wordsOf_2 rfl rfl (fun q => absurd q (by decide)) ?_
    refine y_aload_n 5 Y dX6_wordsOf_5 rfl ?_
    refine y_iconst 6 Y dX6_wordsOf_6 rfl ?_
    refine y_putf 7 Y 45 dX6_wordsOf_7 rfl rfl (fun q => absurd q (by decide)) ?_
    refine y_iconst 10 Y dX6_wordsOf_10 rfl ?_
    refine y_istore_n 11 Y [some mt, some (mi a1), some (mi 0), none] dX6_wordsOf_11 rfl rfl ?_
    refine y_aload_n 12 Y dX6_wordsOf_12 rfl ?_
    refine y_bipush 13 Y dX6_wordsOf_13 rfl ?_
    refine y_iload_n 15 Y dX6_wordsOf_15 rfl ?_
    refine y_call 16 Y (as := [mi 10, mi a1]) [] dX6_wordsOf_16 rfl rfl rfl rfl rfl h (fun r S1 hq hI _ => ?_)
    obtain ⟨rfl, h⟩ := Qv_ok hq
    replace h := h hI
    clear hq
    obtain ⟨n1, h⟩ := h
    exact Wk 19 _ [some mt, none, some (mi 0), none] _ _ ⟨rfl, ⟨rfl, trivial⟩⟩ (hIc n1 _ _ _ _ ((⟨rfl, _, rfl, rfl, h⟩)))
  · intro n pc L st T hi hS hL P Y Wk hIc
    clear hE
    rcases hi with ⟨rfl, l2, rfl, rfl, hi⟩
    · have h := h19 n l2 T hS (hL 2 _ rfl) hi
      clear hL hi h19
      refine y_aload_n 19 Y dX6_wordsOf_19 rfl ?_
      refine y_getf 20 Y 45 dX6_wordsOf_20 rfl rfl (fun _ => ?_)
      refine y_if 23 159 Y dX6_wordsOf_23 rfl rfl (fun c => ?_) (fun c => ?_)
      · replace h := h.1 c
        exact y_ret 159 Y dX6_wordsOf_159 rfl h
      · replace h := h.2 c
        refine y_aload_n 26 Y dX6_wordsOf_26 rfl ?_
        refine y_dup 27 Y dX6_wordsOf_27 rfl ?_
        refine y_getf 28 Y 45 dX6_wordsOf_28 rfl rfl (fun _ => ?_)
        refine y_iconst 31 Y dX6_wordsOf_31 rfl ?_
        obtain ⟨o1, h⟩ := h
        refine y_isub 32 Y dX6_wordsOf_32 o1 ?_
        refine y_putf 33 Y 45 dX6_wordsOf_33 rfl rfl (fun q => absurd q (by decide)) ?_
        refine y_aload_n 36 Y dX6_wordsOf_36 rfl ?_
        refine y_geta 37 Y 44 dX6_wordsOf_37 rfl rfl ?_
        refine y_aload_n 40 Y dX6_wordsOf_40 rfl ?_
        refine y_getf 41 Y 45 dX6_wordsOf_41 rfl rfl (fun q => ?_)
        replace h := h q
        obtain ⟨o2, h⟩ := h
        obtain ⟨o3, h⟩ := h
        refine y_iald 44 Y dX6_wordsOf_44 rfl rfl o2 o3 (fun _ => ?_)
        refine y_istore_n 45 Y [some mt, none, some (mi l2), some (mi (T 44 ((mup T 45 0 ((T 45 0) - 1)) 45 0)))] dX6_wordsOf_45 rfl rfl ?_
        refine y_aload_n 46 Y dX6_wordsOf_46 rfl ?_
        refine y_geta 47 Y 43 dX6_wordsOf_47 rfl rfl ?_
        refine y_aload_n 50 Y dX6_wordsOf_50 rfl ?_
        refine y_getf 51 Y 45 dX6_wordsOf_51 rfl rfl (fun q => ?_)
        replace h := h q
        refine y_iald 54 Y dX6_wordsOf_54 rfl rfl o2 o3 (fun _ => ?_)
        refine y_table 55 Y dX6_wordsOf_55 rfl (And.intro (fun c => ?_) (And.intro (fun c => ?_) (And.intro (fun c => ?_) trivial))) (fun c => ?_)
        · replace h := h.1 c
          refine y_aload_n 80 Y dX6_wordsOf_80 rfl ?_
          refine y_iload_n 81 Y dX6_wordsOf_81 rfl ?_
          refine y_call 82 Y (as := [mi (T 44 ((mup T 45 0 ((T 45 0) - 1)) 45 0))]) [] dX6_wordsOf_82 rfl rfl rfl rfl rfl h (fun r S4 hq hI _ => ?_)
          obtain ⟨rfl, h⟩ := Qv_ok hq
          replace h := h hI
          clear hq
          refine y_goto 85 156 Y dX6_wordsOf_85 rfl rfl ?_
          refine y_goto 156 19 Y dX6_wordsOf_156 rfl rfl ?_
          obtain ⟨n1, hn, h⟩ := h
          exact Wk 19 _ [some mt, none, some (mi l2), none] _ _ ⟨rfl, ⟨rfl, trivial⟩⟩ (hIc n1 _ _ _ _ hn ((⟨rfl, _, rfl, rfl, h⟩)))
        · replace h := h.2.1 c
          refine y_aload_n 88 Y dX6_wordsOf_88 rfl ?_
          refine y_geta 89 Y 46 dX6_wordsOf_89 rfl rfl ?_
          refine y_iload_n 92 Y dX6_wordsOf_92 rfl ?_
          refine y_aload_n 93 Y dX6_wordsOf_93 rfl ?_
          refine y_getf 94 Y 25 dX6_wordsOf_94 rfl rfl (fun _ => ?_)
          obtain ⟨o5, h⟩ := h
          obtain ⟨o6, h⟩ := h
          refine y_iast 97 Y dX6_wordsOf_97 rfl rfl o5 o6 ?_
          obtain ⟨o7, h⟩ := h
          refine y_iinc 98 Y [some mt, none, some (mi (l2 + 1)), some (mi (T 44 ((mup T 45 0 ((T 45 0) - 1)) 45 0)))] dX6_wordsOf_98 rfl rfl o7 ?_
          refine y_aload_n 101 Y dX6_wordsOf_101 rfl ?_
          refine y_iconst 102 Y dX6_wordsOf_102 rfl ?_
          refine y_bipush 103 Y dX6_wordsOf_103 rfl ?_
          refine y_iconst 105 Y dX6_wordsOf_105 rfl ?_
          refine y_call 106 Y (as := [mi 3, mi 40, mi 0]) [] dX6_wordsOf_106 rfl rfl rfl rfl rfl h (fun r S8 hq hI _ => ?_)
          obtain ⟨rfl, h⟩ := Qv_ok hq
          replace h := h hI
          clear hq
          refine y_goto 109 156 Y dX6_wordsOf_109 rfl rfl ?_
          refine y_goto 156 19 Y dX6_wordsOf_156 rfl rfl ?_
          obtain ⟨n1, hn, h⟩ := h
          exact Wk 19 _ [some mt, none, some (mi (l2 + 1)), none] _ _ ⟨rfl, ⟨rfl, trivial⟩⟩ (hIc n1 _ _ _ _ hn ((⟨rfl, _, rfl, rfl, h⟩)))
        · replace h := h.2.2.1 c
          obtain ⟨o9, h⟩ := h
          refine y_iinc 112 Y [some mt, none, some (mi (l2 + (-1))), some (mi (T 44 ((mup T 45 0 ((T 45 0) - 1)) 45 0)))] dX6_wordsOf_112 rfl rfl o9 ?_
          refine y_aload_n 115 Y dX6_wordsOf_115 rfl ?_
          refine y_geta 116 Y 23 dX6_wordsOf_116 rfl rfl ?_
          refine y_aload_n 119 Y dX6_wordsOf_119 rfl ?_
          refine y_geta 120 Y 46 dX6_wordsOf_120 rfl rfl ?_
          refine y_iload_n 123 Y dX6_wordsOf_123 rfl ?_
          obtain ⟨o10, h⟩ := h
          obtain ⟨o11, h⟩ := h
          refine y_iald 124 Y dX6_wordsOf_124 rfl rfl o10 o11 (fun _ => ?_)
          refine y_aload_n 125 Y dX6_wordsOf_125 rfl ?_
          refine y_getf 126 Y 25 dX6_wordsOf_126 rfl rfl (fun _ => ?_)
          obtain ⟨o12, h⟩ := h
          obtain ⟨o13, h⟩ := h
          refine y_iast 129 Y dX6_wordsOf_129 rfl rfl o12 o13 ?_
          refine y_aload_n 130 Y dX6_wordsOf_130 rfl ?_
          refine y_iconst 131 Y dX6_wordsOf_131 rfl ?_
          refine y_bipush 132 Y dX6_wordsOf_132 rfl ?_
          refine y_iconst 134 Y dX6_wordsOf_134 rfl ?_
          refine y_call 135 Y (as := [mi 4, mi 41, mi 0]) [] dX6_wordsOf_135 rfl rfl rfl rfl rfl h (fun r S14 hq hI _ => ?_)
          obtain ⟨rfl, h⟩ := Qv_ok hq
          replace h := h hI
          clear hq
          refine y_goto 138 156 Y dX6_wordsOf_138 rfl rfl ?_
          refine y_goto 156 19 Y dX6_wordsOf_156 rfl rfl ?_
          obtain ⟨n1, hn, h⟩ := h
          exact Wk 19 _ [some mt, none, some (mi (l2 + (-1))), none] _ _ ⟨rfl, ⟨rfl, trivial⟩⟩ (hIc n1 _ _ _ _ hn ((⟨rfl, _, rfl, rfl, h⟩)))
        · replace h := h.2.2.2 c
          refine y_aload_n 141 Y dX6_wordsOf_141 rfl ?_
          refine y_aload_n 142 Y dX6_wordsOf_142 rfl ?_
          refine y_geta 143 Y 43 dX6_wordsOf_143 rfl rfl ?_
          refine y_aload_n 146 Y dX6_wordsOf_146 rfl ?_
          refine y_getf 147 Y 45 dX6_wordsOf_147 rfl rfl (fun q => ?_)
          replace h := h q
          refine y_iald 150 Y dX6_wordsOf_150 rfl rfl o2 o3 (fun _ => ?_)
          refine y_iload_n 151 Y dX6_wordsOf_151 rfl ?_
          refine y_iconst 152 Y dX6_wordsOf_152 rfl ?_
          refine y_call 153 Y (as := [mi (T 43 ((mup T 45 0 ((T 45 0) - 1)) 45 0)), mi (T 44 ((mup T 45 0 ((T 45 0) - 1)) 45 0)), mi 0]) [] dX6_wordsOf_153 rfl rfl rfl rfl rfl h (fun r S15 hq hI _ => ?_)
          obtain ⟨rfl, h⟩ := Qv_ok hq
          replace h := h hI
          clear hq
          refine y_goto 156 19 Y dX6_wordsOf_156 rfl rfl ?_
          obtain ⟨n1, hn, h⟩ := h
          exact Wk 19 _ [some mt, none, some (mi l2), none] _ _ ⟨rfl, ⟨rfl, trivial⟩⟩ (hIc n1 _ _ _ _ hn ((⟨rfl, _, rfl, rfl, h⟩)))

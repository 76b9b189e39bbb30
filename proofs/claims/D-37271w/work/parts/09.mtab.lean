/-! Tables of RankwiseModel for the little machine; printed by gen_model.py. -/
set_option maxRecDepth 100000
/-- a table's row -/
def mfind {α : Type} : List (Nat × α) → Nat → Option α
  | [], _ => none
  | (a, b) :: r, k => if Nat.beq a k = true then some b else mfind r k
theorem mfind_mem {α : Type} {t : List (Nat × α)} {k : Nat} {b : α} (h : mfind t k = some b) : (k, b) ∈ t := by
  induction t with
  | nil => cases h
  | cons q r ih =>
    obtain ⟨a, x⟩ := q
    unfold mfind at h
    split at h
    · rename_i hk
      have := Nat.eq_of_beq_eq_true hk
      subst this
      cases h
      exact List.mem_cons_self
    · exact List.mem_cons_of_mem _ (ih h)
/-- 0: an int; 1: an int array; 2: a boolean array; 3: a boolean -/
def mkd (k : Nat) : Nat := match k with
  | 0 => 0
  | 10 => 0
  | 19 => 0
  | 24 => 2
  | 25 => 0
  | 26 => 3
  | 33 => 0
  | 35 => 2
  | 36 => 0
  | 40 => 0
  | 42 => 0
  | 45 => 0
  | 47 => 2
  | 56 => 0
  | 60 => 0
  | 61 => 0
  | 62 => 0
  | 63 => 0
  | 64 => 0
  | 67 => 0
  | 68 => 0
  | 69 => 0
  | 74 => 0
  | 75 => 0
  | 76 => 0
  | 83 => 0
  | 84 => 0
  | k => if k < 86 then 1 else 0
def mln (k : Nat) : Nat := match k with
  | 1 => 7040
  | 2 => 16
  | 3 => 104160
  | 4 => 20300
  | 5 => 20300
  | 6 => 20300
  | 7 => 20300
  | 8 => 20300
  | 9 => 30
  | 11 => 26
  | 12 => 26
  | 13 => 208
  | 14 => 100
  | 15 => 48
  | 16 => 48
  | 17 => 48
  | 18 => 60
  | 20 => 1000
  | 21 => 1000
  | 22 => 1000
  | 23 => 1000
  | 24 => 1000
  | 27 => 100
  | 28 => 100
  | 29 => 100
  | 30 => 100
  | 31 => 100
  | 32 => 100
  | 34 => 100
  | 35 => 100
  | 37 => 600
  | 38 => 600
  | 39 => 600
  | 41 => 2000
  | 43 => 600
  | 44 => 600
  | 46 => 200
  | 47 => 26
  | 48 => 800
  | 49 => 800
  | 50 => 800
  | 51 => 800
  | 52 => 800
  | 53 => 800
  | 54 => 800
  | 55 => 800
  | 57 => 500
  | 58 => 500
  | 59 => 500
  | 65 => 100
  | 66 => 100
  | 70 => 5832
  | 71 => 27
  | 72 => 27
  | 73 => 80
  | 77 => 20
  | 78 => 20
  | 79 => 20
  | 80 => 20
  | 81 => 20
  | 82 => 160
  | 85 => 122
  | _ => 0
set_option maxRecDepth 100000 in
theorem mfin0 : ∀ k, k < 86 → (mkd k = 0 → (TX6 k).2.2.2 = false ∧ tyX6 k = .int) ∧ (mkd k = 3 → (TX6 k).2.2.2 = false ∧ tyX6 k = .boolean) ∧ (mkd k = 0 ∨ mkd k = 1 ∨ mkd k = 2 ∨ mkd k = 3) := by decide +kernel
def mfldL : List (Nat × Nat) := [(1, 0), (7, 2), (11, 1), (46, 3), (135, 4), (138, 5), (141, 6), (144, 7), (147, 8), (150, 14), (153, 15), (159, 16), (162, 17), (172, 9), (175, 11), (178, 12), (181, 13), (184, 18), (187, 20), (190, 21), (193, 22), (196, 23), (199, 24), (203, 27), (206, 28), (209, 29), (212, 30), (215, 31), (218, 32), (221, 34), (224, 35), (227, 37), (230, 38), (233, 39), (236, 41), (239, 43), (242, 44), (245, 46), (248, 47), (251, 48), (254, 49), (257, 50), (260, 51), (263, 52), (266, 53), (269, 54), (272, 55), (275, 57), (278, 58), (281, 59), (284, 65), (287, 66), (290, 70), (293, 71), (296, 72), (299, 73), (302, 77), (305, 78), (308, 79), (311, 80), (314, 81), (317, 82), (320, 85), (327, 25), (330, 19), (342, 26), (349, 33), (352, 36), (355, 40), (399, 45), (430, 42), (442, 56), (445, 61), (448, 62), (463, 60), (472, 63), (512, 64), (543, 67), (549, 69), (576, 68), (603, 75), (606, 74), (630, 76), (651, 84), (654, 83), (661, 10)]
def mfld (idx : Nat) : Option Nat := mfind mfldL idx
abbrev mfOK (q : Nat × Nat) : Prop := q.2 < 86 ∧ Cond.fieldLink RX6 q.1 (TX6 q.2).1 (TX6 q.2).2.1 (TX6 q.2).2.2.1 ∈ lw_all
theorem mfldL_ok : ∀ q ∈ mfldL, mfOK q := List.forall_mem_cons.mpr ⟨⟨by decide, q4723⟩, List.forall_mem_cons.mpr ⟨⟨by decide, q4725⟩, List.forall_mem_cons.mpr ⟨⟨by decide, q4724⟩, List.forall_mem_cons.mpr ⟨⟨by decide, q4726⟩, List.forall_mem_cons.mpr ⟨⟨by decide, q4727⟩, List.forall_mem_cons.mpr ⟨⟨by decide, q4728⟩, List.forall_mem_cons.mpr ⟨⟨by decide, q4729⟩, List.forall_mem_cons.mpr ⟨⟨by decide, q4730⟩, List.forall_mem_cons.mpr ⟨⟨by decide, q4731⟩, List.forall_mem_cons.mpr ⟨⟨by decide, q4737⟩, List.forall_mem_cons.mpr ⟨⟨by decide, q4738⟩, List.forall_mem_cons.mpr ⟨⟨by decide, q4739⟩, List.forall_mem_cons.mpr ⟨⟨by decide, q4740⟩, List.forall_mem_cons.mpr ⟨⟨by decide, q4732⟩, List.forall_mem_cons.mpr ⟨⟨by decide, q4734⟩, List.forall_mem_cons.mpr ⟨⟨by decide, q4735⟩, List.forall_mem_cons.mpr ⟨⟨by decide, q4736⟩, List.forall_mem_cons.mpr ⟨⟨by decide, q4741⟩, List.forall_mem_cons.mpr ⟨⟨by decide, q4743⟩, List.forall_mem_cons.mpr ⟨⟨by decide, q4744⟩, List.forall_mem_cons.mpr ⟨⟨by decide, q4745⟩, List.forall_mem_cons.mpr ⟨⟨by decide, q4746⟩, List.forall_mem_cons.mpr ⟨⟨by decide, q4747⟩, List.forall_mem_cons.mpr ⟨⟨by decide, q4750⟩, List.forall_mem_cons.mpr ⟨⟨by decide, q4751⟩, List.forall_mem_cons.mpr ⟨⟨by decide, q4752⟩, List.forall_mem_cons.mpr ⟨⟨by decide, q4753⟩, List.forall_mem_cons.mpr ⟨⟨by decide, q4754⟩, List.forall_mem_cons.mpr ⟨⟨by decide, q4755⟩, List.forall_mem_cons.mpr ⟨⟨by decide, q4757⟩, List.forall_mem_cons.mpr ⟨⟨by decide, q4758⟩, List.forall_mem_cons.mpr ⟨⟨by decide, q4760⟩, List.forall_mem_cons.mpr ⟨⟨by decide, q4761⟩, List.forall_mem_cons.mpr ⟨⟨by decide, q4762⟩, List.forall_mem_cons.mpr ⟨⟨by decide, q4764⟩, List.forall_mem_cons.mpr ⟨⟨by decide, q4766⟩, List.forall_mem_cons.mpr ⟨⟨by decide, q4767⟩, List.forall_mem_cons.mpr ⟨⟨by decide, q4769⟩, List.forall_mem_cons.mpr ⟨⟨by decide, q4770⟩, List.forall_mem_cons.mpr ⟨⟨by decide, q4771⟩, List.forall_mem_cons.mpr ⟨⟨by decide, q4772⟩, List.forall_mem_cons.mpr ⟨⟨by decide, q4773⟩, List.forall_mem_cons.mpr ⟨⟨by decide, q4774⟩, List.forall_mem_cons.mpr ⟨⟨by decide, q4775⟩, List.forall_mem_cons.mpr ⟨⟨by decide, q4776⟩, List.forall_mem_cons.mpr ⟨⟨by decide, q4777⟩, List.forall_mem_cons.mpr ⟨⟨by decide, q4778⟩, List.forall_mem_cons.mpr ⟨⟨by decide, q4780⟩, List.forall_mem_cons.mpr ⟨⟨by decide, q4781⟩, List.forall_mem_cons.mpr ⟨⟨by decide, q4782⟩, List.forall_mem_cons.mpr ⟨⟨by decide, q4788⟩, List.forall_mem_cons.mpr ⟨⟨by decide, q4789⟩, List.forall_mem_cons.mpr ⟨⟨by decide, q4793⟩, List.forall_mem_cons.mpr ⟨⟨by decide, q4794⟩, List.forall_mem_cons.mpr ⟨⟨by decide, q4795⟩, List.forall_mem_cons.mpr ⟨⟨by decide, q4796⟩, List.forall_mem_cons.mpr ⟨⟨by decide, q4800⟩, List.forall_mem_cons.mpr ⟨⟨by decide, q4801⟩, List.forall_mem_cons.mpr ⟨⟨by decide, q4802⟩, List.forall_mem_cons.mpr ⟨⟨by decide, q4803⟩, List.forall_mem_cons.mpr ⟨⟨by decide, q4804⟩, List.forall_mem_cons.mpr ⟨⟨by decide, q4805⟩, List.forall_mem_cons.mpr ⟨⟨by decide, q4808⟩, List.forall_mem_cons.mpr ⟨⟨by decide, q4748⟩, List.forall_mem_cons.mpr ⟨⟨by decide, q4742⟩, List.forall_mem_cons.mpr ⟨⟨by decide, q4749⟩, List.forall_mem_cons.mpr ⟨⟨by decide, q4756⟩, List.forall_mem_cons.mpr ⟨⟨by decide, q4759⟩, List.forall_mem_cons.mpr ⟨⟨by decide, q4763⟩, List.forall_mem_cons.mpr ⟨⟨by decide, q4768⟩, List.forall_mem_cons.mpr ⟨⟨by decide, q4765⟩, List.forall_mem_cons.mpr ⟨⟨by decide, q4779⟩, List.forall_mem_cons.mpr ⟨⟨by decide, q4784⟩, List.forall_mem_cons.mpr ⟨⟨by decide, q4785⟩, List.forall_mem_cons.mpr ⟨⟨by decide, q4783⟩, List.forall_mem_cons.mpr ⟨⟨by decide, q4786⟩, List.forall_mem_cons.mpr ⟨⟨by decide, q4787⟩, List.forall_mem_cons.mpr ⟨⟨by decide, q4790⟩, List.forall_mem_cons.mpr ⟨⟨by decide, q4792⟩, List.forall_mem_cons.mpr ⟨⟨by decide, q4791⟩, List.forall_mem_cons.mpr ⟨⟨by decide, q4798⟩, List.forall_mem_cons.mpr ⟨⟨by decide, q4797⟩, List.forall_mem_cons.mpr ⟨⟨by decide, q4799⟩, List.forall_mem_cons.mpr ⟨⟨by decide, q4807⟩, List.forall_mem_cons.mpr ⟨⟨by decide, q4806⟩, List.forall_mem_cons.mpr ⟨⟨by decide, q4733⟩, fun _ h => absurd h List.not_mem_nil⟩⟩⟩⟩⟩⟩⟩⟩⟩⟩⟩⟩⟩⟩⟩⟩⟩⟩⟩⟩⟩⟩⟩⟩⟩⟩⟩⟩⟩⟩⟩⟩⟩⟩⟩⟩⟩⟩⟩⟩⟩⟩⟩⟩⟩⟩⟩⟩⟩⟩⟩⟩⟩⟩⟩⟩⟩⟩⟩⟩⟩⟩⟩⟩⟩⟩⟩⟩⟩⟩⟩⟩⟩⟩⟩⟩⟩⟩⟩⟩⟩⟩⟩⟩⟩⟩
def mconL : List (Nat × Int) := [(14, 65535), (91, 1073741824), (171, 104160), (521, 999999999)]
def mcon (idx : Nat) : Option Int := mfind mconL idx
theorem mconL_ok : ∀ q ∈ mconL, (-2147483648 ≤ q.2 ∧ q.2 ≤ 2147483647) ∧ Cond.constant RX6 q.1 (Int32.ofInt q.2) ∈ lw_all := List.forall_mem_cons.mpr ⟨⟨⟨by decide, by decide⟩, q4714⟩, List.forall_mem_cons.mpr ⟨⟨⟨by decide, by decide⟩, q5375⟩, List.forall_mem_cons.mpr ⟨⟨⟨by decide, by decide⟩, q4698⟩, List.forall_mem_cons.mpr ⟨⟨⟨by decide, by decide⟩, q5517⟩, fun _ h => absurd h List.not_mem_nil⟩⟩⟩⟩
def mcoLL : List (Nat × Int) := [(19, 65535), (508, -1), (510, 999999999)]
def mcoL (idx : Nat) : Option Int := mfind mcoLL idx
theorem mcoLL_ok : ∀ q ∈ mcoLL, (-9223372036854775808 ≤ q.2 ∧ q.2 ≤ 9223372036854775807) ∧ Cond.constantLong RX6 q.1 (Int64.ofInt q.2) ∈ lw_all := List.forall_mem_cons.mpr ⟨⟨⟨by decide, by decide⟩, q5306⟩, List.forall_mem_cons.mpr ⟨⟨⟨by decide, by decide⟩, q5499⟩, List.forall_mem_cons.mpr ⟨⟨⟨by decide, by decide⟩, q5500⟩, fun _ h => absurd h List.not_mem_nil⟩⟩⟩
abbrev mCE : Type := MethodName × ByteArray × Nat × Option FieldType × Nat × Bool × Nat
abbrev mcOK (q : Nat × mCE) : Prop := (q.2.1.cls = RX6 ∧ (parseMethodDescriptor q.2.1.desc).map (fun d => d.parameters.length) = some q.2.2.2.2.2.1 ∧ q.2.2.2.1 + 19 ≤ 64) ∧ Cond.methodLink RX6 q.1 q.2.1 ∈ lw_all ∧ Cond.code q.2.1 q.2.2.1 q.2.2.2.1 q.2.2.2.2.1 ∈ lw_all ∧ ((q.2.2.2.2.2.2.1 = true ∧ Cond.static q.2.1 ∈ lw_all) ∨ (q.2.2.2.2.2.2.1 = false ∧ Cond.instanceMethod q.2.1 ∈ lw_all ∧ Cond.selects RX6 q.2.1 q.2.1 ∈ lw_all))
def mcalL : List (Nat × mCE) := [
(15, yX6_trim, cX6_trim, 2, none, 1, false, 0),
  (21, yX6_bits, cX6_bits, 4, (some .int), 1, false, 0),
  (25, yX6_isBit, cX6_isBit, 3, (some .boolean), 2, false, 0),
  (29, yX6_twice, cX6_twice, 6, none, 2, false, 0),
  (33, yX6_compare, cX6_compare, 5, (some .int), 2, false, 0),
  (37, yX6_minus, cX6_minus, 6, none, 2, false, 1),
  (40, yX6_halve, cX6_halve, 4, none, 1, false, 1),
  (43, yX6_copy, cX6_copy, 4, none, 2, false, 0),
  (49, yX6_load, cX6_load, 5, none, 3, false, 1),
  (53, yX6_put, cX6_put, 3, none, 2, false, 1),
  (56, yX6_hold, cX6_hold, 5, none, 3, false, 0),
  (59, yX6_common, cX6_common, 5, none, 2, false, 2),
  (62, yX6_divide, cX6_divide, 7, none, 4, false, 2),
  (66, yX6_lowest, cX6_lowest, 3, none, 2, false, 3),
  (69, yX6_plus, cX6_plus, 7, none, 2, false, 0),
  (72, yX6_loadNumerator, cX6_loadNumerator, 3, none, 2, false, 2),
  (75, yX6_loadDenominator, cX6_loadDenominator, 3, none, 2, false, 2),
  (78, yX6_times, cX6_times, 13, none, 3, false, 1),
  (81, yX6_sign_2, cX6_sign_2, 2, (some .int), 1, false, 0),
  (84, yX6_signed, cX6_signed, 6, (some .int), 4, false, 2),
  (88, yX6_store, cX6_store, 3, (some .boolean), 2, false, 4),
  (92, yX6_isWhole, cX6_isWhole, 4, (some .boolean), 1, false, 0),
  (96, yX6_setInt, cX6_setInt, 3, none, 2, false, 2),
  (99, yX6_multiplyValues, cX6_multiplyValues, 4, (some .boolean), 3, false, 5),
  (103, yX6_small, cX6_small, 3, (some .int), 1, false, 3),
  (106, yX6_in, cX6_in, 3, (some .boolean), 3, true, 0),
  (109, yX6_raise, cX6_raise, 6, (some .boolean), 3, false, 6),
  (112, yX6_divideValues, cX6_divideValues, 4, (some .boolean), 3, false, 5),
  (115, yX6_copyValue, cX6_copyValue, 4, none, 2, false, 0),
  (118, yX6_factorial, cX6_factorial, 5, (some .int), 2, false, 6),
  (121, yX6_addValues, cX6_addValues, 6, (some .boolean), 4, false, 5),
  (125, yX6_remainder, cX6_remainder, 4, (some .int), 3, false, 5),
  (129, yX6_power, cX6_power, 6, (some .int), 3, false, 7),
  (132, yX6_compareValues, cX6_compareValues, 3, (some .int), 2, false, 3),
  (156, yX6_signOf, cX6_signOf, 1, (some .int), 1, true, 0),
  (323, yX6_tellFirst, cX6_tellFirst, 6, none, 5, false, 1),
  (333, yX6_typedAt, cX6_typedAt, 2, (some .int), 1, false, 0),
  (336, yX6_digit, cX6_digit, 3, (some .int), 2, true, 1),
  (339, yX6_word, cX6_word, 4, none, 3, false, 0),
  (346, yX6_number, cX6_number, 8, (some .int), 1, false, 2),
  (358, yX6_does, cX6_does, 7, none, 4, false, 0),
  (361, yX6_rankOf, cX6_rankOf, 3, (some .int), 2, false, 1),
  (364, yX6_nextWord, cX6_nextWord, 3, (some .int), 1, false, 0),
  (367, yX6_opens, cX6_opens, 4, none, 3, false, 0),
  (369, yX6_reduce, cX6_reduce, 3, none, 1, false, 1),
  (372, yX6_isNeither, cX6_isNeither, 3, (some .boolean), 1, false, 2),
  (375, yX6_sign, cX6_sign, 5, (some .boolean), 2, false, 3),
  (377, yX6_operand, cX6_operand, 4, (some .boolean), 1, false, 2),
  (380, yX6_opensCall, cX6_opensCall, 3, (some .boolean), 1, false, 1),
  (383, yX6_operator, cX6_operator, 2, (some .boolean), 1, false, 4),
  (386, yX6_node, cX6_node, 6, none, 5, false, 0),
  (389, yX6_span, cX6_span, 6, none, 2, false, 0),
  (392, yX6_lex, cX6_lex, 4, none, 0, false, 3),
  (395, yX6_parse, cX6_parse, 4, (some .int), 0, false, 5),
  (402, yX6_task, cX6_task, 3, none, 2, false, 0),
  (405, yX6_child, cX6_child, 5, (some .int), 2, false, 0),
  (408, yX6_operandTask, cX6_operandTask, 3, none, 1, false, 1),
  (411, yX6_tasksOf, cX6_tasksOf, 3, none, 1, false, 2),
  (414, yX6_lay, cX6_lay, 7, (some .int), 1, false, 1),
  (417, yX6_areSame, cX6_areSame, 6, (some .boolean), 2, false, 0),
  (420, yX6_wordsOf, cX6_wordsOf, 4, none, 1, false, 3),
  (423, yX6_setGone, cX6_setGone, 3, none, 2, false, 0),
  (427, yX6_makes, cX6_makes, 2, (some .boolean), 1, false, 6),
  (433, yX6_prints, cX6_prints, 2, none, 1, false, 0),
  (436, yX6_outNumber, cX6_outNumber, 3, none, 1, false, 1),
  (439, yX6_inOrder, cX6_inOrder, 5, (some .int), 1, false, 0),
  (451, yX6_count, cX6_count, 1, (some .int), 0, false, 0),
  (454, yX6_look, cX6_look, 4, (some .int), 2, false, 1),
  (457, yX6_enter, cX6_enter, 3, none, 2, false, 0),
  (460, yX6_top, cX6_top, 1, (some .int), 0, false, 0),
  (466, yX6_goOnSum, cX6_goOnSum, 5, (some .int), 2, false, 6),
  (469, yX6_beginSum, cX6_beginSum, 7, (some .int), 2, false, 6),
  (475, yX6_holds, cX6_holds, 3, none, 2, false, 0),
  (478, yX6_caseAt, cX6_caseAt, 3, (some .int), 3, true, 0),
  (481, yX6_cases, cX6_cases, 5, (some .int), 2, false, 1),
  (484, yX6_meaningAt, cX6_meaningAt, 2, (some .int), 1, false, 1),
  (487, yX6_callFunction, cX6_callFunction, 6, (some .int), 3, false, 1),
  (490, yX6_one, cX6_one, 3, (some .int), 2, false, 7),
  (493, yX6_two, cX6_two, 5, (some .int), 3, false, 8),
  (496, yX6_leaf, cX6_leaf, 5, (some .int), 2, false, 3),
  (499, yX6_choose, cX6_choose, 4, (some .int), 2, false, 1),
  (502, yX6_sums, cX6_sums, 4, (some .int), 2, false, 7),
  (505, yX6_applies, cX6_applies, 6, (some .int), 2, false, 9),
  (515, yX6_copyNodes, cX6_copyNodes, 5, none, 3, false, 0),
  (518, yX6_isProduct, cX6_isProduct, 2, (some .boolean), 1, false, 2),
  (522, yX6_whole, cX6_whole, 7, (some .int), 3, false, 0),
  (525, yX6_becomes, cX6_becomes, 5, none, 2, false, 1),
  (528, yX6_isNumber, cX6_isNumber, 3, (some .boolean), 2, false, 0),
  (531, yX6_becomesInner, cX6_becomesInner, 6, none, 2, false, 1),
  (534, yX6_gathered, cX6_gathered, 4, (some .int), 2, false, 3),
  (537, yX6_ruleOfTwo, cX6_ruleOfTwo, 7, (some .int), 2, false, 4),
  (540, yX6_ruleAt, cX6_ruleAt, 3, (some .int), 1, false, 5),
  (546, yX6_coefficientAt, cX6_coefficientAt, 2, (some .int), 2, true, 0),
  (552, yX6_degreeOf, cX6_degreeOf, 3, (some .int), 1, false, 1),
  (555, yX6_clearWide, cX6_clearWide, 1, none, 0, false, 2),
  (558, yX6_addProduct, cX6_addProduct, 4, none, 3, false, 4),
  (561, yX6_storeWide, cX6_storeWide, 2, (some .boolean), 1, false, 5),
  (564, yX6_keepWhole, cX6_keepWhole, 5, none, 3, false, 0),
  (567, yX6_loadWhole, cX6_loadWhole, 4, none, 2, false, 0),
  (570, yX6_makeWhole, cX6_makeWhole, 3, none, 1, false, 3),
  (573, yX6_raiseWhole, cX6_raiseWhole, 5, none, 0, false, 3),
  (579, yX6_multiplyPolynomials, cX6_multiplyPolynomials, 7, (some .boolean), 3, false, 6),
  (582, yX6_copyPolynomial, cX6_copyPolynomial, 4, none, 2, false, 1),
  (585, yX6_scalePolynomials, cX6_scalePolynomials, 5, (some .boolean), 2, false, 6),
  (588, yX6_raisePolynomial, cX6_raisePolynomial, 5, (some .boolean), 2, false, 5),
  (591, yX6_clear, cX6_clear, 3, none, 1, false, 3),
  (594, yX6_gatherTwo, cX6_gatherTwo, 7, (some .boolean), 2, false, 7),
  (597, yX6_gatherNode, cX6_gatherNode, 6, (some .boolean), 2, false, 8),
  (600, yX6_isTold, cX6_isTold, 3, (some .boolean), 1, false, 2),
  (609, yX6_addNodes, cX6_addNodes, 3, none, 2, false, 1),
  (612, yX6_signBetween, cX6_signBetween, 5, (some .int), 1, false, 1),
  (615, yX6_add, cX6_add, 5, none, 4, false, 1),
  (618, yX6_addDerived, cX6_addDerived, 3, none, 2, false, 2),
  (621, yX6_addTree, cX6_addTree, 2, none, 1, false, 2),
  (624, yX6_areTold, cX6_areTold, 4, (some .boolean), 1, false, 3),
  (627, yX6_deriveTwo, cX6_deriveTwo, 7, none, 3, false, 3),
  (633, yX6_valueAt, cX6_valueAt, 1, (some .int), 1, true, 0),
  (636, yX6_partOfPower, cX6_partOfPower, 4, (some .boolean), 2, false, 7),
  (639, yX6_partOfQuotient, cX6_partOfQuotient, 3, (some .boolean), 2, false, 5),
  (642, yX6_pairTwo, cX6_pairTwo, 8, (some .int), 2, false, 9),
  (645, yX6_partAt, cX6_partAt, 1, (some .int), 1, true, 0),
  (648, yX6_pairNode, cX6_pairNode, 4, (some .int), 2, false, 10),
  (657, yX6_note, cX6_note, 7, (some .int), 5, false, 0),
  (664, yX6_isTree, cX6_isTree, 2, (some .boolean), 1, false, 1),
  (667, yX6_shelf, cX6_shelf, 1, (some .int), 1, true, 0),
  (670, yX6_refused, cX6_refused, 4, (some .boolean), 3, false, 0),
  (674, yX6_faultOf, cX6_faultOf, 2, (some .int), 0, false, 6),
  (677, yX6_shelve, cX6_shelve, 3, (some .int), 2, false, 1),
  (680, yX6_isNode, cX6_isNode, 3, (some .boolean), 2, false, 2),
  (683, yX6_parentOf, cX6_parentOf, 4, (some .int), 2, false, 0),
  (686, yX6_isRange, cX6_isRange, 3, (some .boolean), 2, false, 0),
  (689, yX6_isName, cX6_isName, 1, (some .boolean), 1, true, 1),
  (692, yX6_grafted, cX6_grafted, 8, (some .int), 3, false, 1),
  (695, yX6_isMeaning, cX6_isMeaning, 3, (some .boolean), 2, true, 1),
  (698, yX6_isOther, cX6_isOther, 6, (some .boolean), 3, false, 0),
  (701, yX6_fewest, cX6_fewest, 3, none, 1, false, 7),
  (704, yX6_outWords, cX6_outWords, 2, none, 0, false, 2),
  (707, yX6_hasOwnCall, cX6_hasOwnCall, 4, (some .boolean), 1, false, 0),
  (710, yX6_outPostfix, cX6_outPostfix, 5, none, 1, false, 2),
  (713, yX6_run, cX6_run, 6, (some .int), 1, false, 10),
  (716, yX6_answers, cX6_answers, 3, (some .int), 1, false, 11),
  (719, yX6_noteValue, cX6_noteValue, 3, none, 1, false, 1),
  (722, yX6_noteFunction, cX6_noteFunction, 4, none, 1, false, 1),
  (725, yX6_layCase, cX6_layCase, 5, none, 3, false, 1),
  (728, yX6_takeWork, cX6_takeWork, 2, none, 1, false, 1),
  (731, yX6_stepWork, cX6_stepWork, 5, (some .boolean), 0, false, 6),
  (735, yX6_gathers, cX6_gathers, 6, (some .boolean), 2, false, 9),
  (738, yX6_derives, cX6_derives, 6, (some .int), 2, false, 4),
  (741, yX6_slopes, cX6_slopes, 6, (some .int), 2, false, 11),
  (744, yX6_copyWideAside, cX6_copyWideAside, 2, none, 0, false, 0),
  (747, yX6_loadAside, cX6_loadAside, 2, none, 0, false, 0),
  (750, yX6_isPrinted, cX6_isPrinted, 4, (some .boolean), 1, false, 8),
  (753, yX6_isSimpler, cX6_isSimpler, 9, (some .boolean), 1, false, 11),
  (756, yX6_isSlope, cX6_isSlope, 4, (some .boolean), 2, false, 12)]
theorem mcok_15 : mcOK (15, yX6_trim, cX6_trim, 2, none, 1, false, 0) := ⟨⟨rfl, by decide +kernel, by decide⟩, q4715, q4718, Or.inr ⟨rfl, q4717, qs117⟩⟩
theorem mcok_21 : mcOK (21, yX6_bits, cX6_bits, 4, (some .int), 1, false, 0) := ⟨⟨rfl, by decide +kernel, by decide⟩, q5355, q5358, Or.inr ⟨rfl, q5357, qs192⟩⟩
theorem mcok_25 : mcOK (25, yX6_isBit, cX6_isBit, 3, (some .boolean), 2, false, 0) := ⟨⟨rfl, by decide +kernel, by decide⟩, q5339, q5342, Or.inr ⟨rfl, q5341, qs188⟩⟩
theorem mcok_29 : mcOK (29, yX6_twice, cX6_twice, 6, none, 2, false, 0) := ⟨⟨rfl, by decide +kernel, by decide⟩, q5347, q5350, Or.inr ⟨rfl, q5349, qs190⟩⟩
theorem mcok_33 : mcOK (33, yX6_compare, cX6_compare, 5, (some .int), 2, false, 0) := ⟨⟨rfl, by decide +kernel, by decide⟩, q5319, q5322, Or.inr ⟨rfl, q5321, qs183⟩⟩
theorem mcok_37 : mcOK (37, yX6_minus, cX6_minus, 6, none, 2, false, 1) := ⟨⟨rfl, by decide +kernel, by decide⟩, q5323, q5326, Or.inr ⟨rfl, q5325, qs184⟩⟩
theorem mcok_40 : mcOK (40, yX6_halve, cX6_halve, 4, none, 1, false, 1) := ⟨⟨rfl, by decide +kernel, by decide⟩, q5343, q5346, Or.inr ⟨rfl, q5345, qs189⟩⟩
theorem mcok_43 : mcOK (43, yX6_copy, cX6_copy, 4, none, 2, false, 0) := ⟨⟨rfl, by decide +kernel, by decide⟩, q5311, q5314, Or.inr ⟨rfl, q5313, qs181⟩⟩
theorem mcok_49 : mcOK (49, yX6_load, cX6_load, 5, none, 3, false, 1) := ⟨⟨rfl, by decide +kernel, by decide⟩, q5294, q5297, Or.inr ⟨rfl, q5296, qs177⟩⟩
theorem mcok_53 : mcOK (53, yX6_put, cX6_put, 3, none, 2, false, 1) := ⟨⟨rfl, by decide +kernel, by decide⟩, q4710, q4713, Or.inr ⟨rfl, q4712, qs116⟩⟩
theorem mcok_56 : mcOK (56, yX6_hold, cX6_hold, 5, none, 3, false, 0) := ⟨⟨rfl, by decide +kernel, by decide⟩, q4719, q4722, Or.inr ⟨rfl, q4721, qs118⟩⟩
theorem mcok_59 : mcOK (59, yX6_common, cX6_common, 5, none, 2, false, 2) := ⟨⟨rfl, by decide +kernel, by decide⟩, q5335, q5338, Or.inr ⟨rfl, q5337, qs187⟩⟩
theorem mcok_62 : mcOK (62, yX6_divide, cX6_divide, 7, none, 4, false, 2) := ⟨⟨rfl, by decide +kernel, by decide⟩, q5351, q5354, Or.inr ⟨rfl, q5353, qs191⟩⟩
theorem mcok_66 : mcOK (66, yX6_lowest, cX6_lowest, 3, none, 2, false, 3) := ⟨⟨rfl, by decide +kernel, by decide⟩, q5331, q5334, Or.inr ⟨rfl, q5333, qs186⟩⟩
theorem mcok_69 : mcOK (69, yX6_plus, cX6_plus, 7, none, 2, false, 0) := ⟨⟨rfl, by decide +kernel, by decide⟩, q5315, q5318, Or.inr ⟨rfl, q5317, qs182⟩⟩
theorem mcok_72 : mcOK (72, yX6_loadNumerator, cX6_loadNumerator, 3, none, 2, false, 2) := ⟨⟨rfl, by decide +kernel, by decide⟩, q5290, q5293, Or.inr ⟨rfl, q5292, qs176⟩⟩
theorem mcok_75 : mcOK (75, yX6_loadDenominator, cX6_loadDenominator, 3, none, 2, false, 2) := ⟨⟨rfl, by decide +kernel, by decide⟩, q5298, q5301, Or.inr ⟨rfl, q5300, qs178⟩⟩
theorem mcok_78 : mcOK (78, yX6_times, cX6_times, 13, none, 3, false, 1) := ⟨⟨rfl, by decide +kernel, by decide⟩, q5302, q5305, Or.inr ⟨rfl, q5304, qs179⟩⟩
theorem mcok_81 : mcOK (81, yX6_sign_2, cX6_sign_2, 2, (some .int), 1, false, 0) := ⟨⟨rfl, by decide +kernel, by decide⟩, q5274, q5277, Or.inr ⟨rfl, q5276, qs172⟩⟩
theorem mcok_84 : mcOK (84, yX6_signed, cX6_signed, 6, (some .int), 4, false, 2) := ⟨⟨rfl, by decide +kernel, by decide⟩, q5307, q5310, Or.inr ⟨rfl, q5309, qs180⟩⟩
theorem mcok_88 : mcOK (88, yX6_store, cX6_store, 3, (some .boolean), 2, false, 4) := ⟨⟨rfl, by decide +kernel, by decide⟩, q5327, q5330, Or.inr ⟨rfl, q5329, qs185⟩⟩
theorem mcok_92 : mcOK (92, yX6_isWhole, cX6_isWhole, 4, (some .boolean), 1, false, 0) := ⟨⟨rfl, by decide +kernel, by decide⟩, q5363, q5366, Or.inr ⟨rfl, q5365, qs194⟩⟩
theorem mcok_96 : mcOK (96, yX6_setInt, cX6_setInt, 3, none, 2, false, 2) := ⟨⟨rfl, by decide +kernel, by decide⟩, q4706, q4709, Or.inr ⟨rfl, q4708, qs115⟩⟩
theorem mcok_99 : mcOK (99, yX6_multiplyValues, cX6_multiplyValues, 4, (some .boolean), 3, false, 5) := ⟨⟨rfl, by decide +kernel, by decide⟩, q5407, q5410, Or.inr ⟨rfl, q5409, qs204⟩⟩
theorem mcok_103 : mcOK (103, yX6_small, cX6_small, 3, (some .int), 1, false, 3) := ⟨⟨rfl, by decide +kernel, by decide⟩, q5371, q5374, Or.inr ⟨rfl, q5373, qs196⟩⟩
theorem mcok_106 : mcOK (106, yX6_in, cX6_in, 3, (some .boolean), 3, true, 0) := ⟨⟨rfl, by decide +kernel, by decide⟩, q5019, q5021, Or.inl ⟨rfl, q5020⟩⟩
theorem mcok_109 : mcOK (109, yX6_raise, cX6_raise, 6, (some .boolean), 3, false, 6) := ⟨⟨rfl, by decide +kernel, by decide⟩, q5427, q5430, Or.inr ⟨rfl, q5429, qs209⟩⟩
theorem mcok_112 : mcOK (112, yX6_divideValues, cX6_divideValues, 4, (some .boolean), 3, false, 5) := ⟨⟨rfl, by decide +kernel, by decide⟩, q5415, q5418, Or.inr ⟨rfl, q5417, qs206⟩⟩
theorem mcok_115 : mcOK (115, yX6_copyValue, cX6_copyValue, 4, none, 2, false, 0) := ⟨⟨rfl, by decide +kernel, by decide⟩, q4987, q4990, Or.inr ⟨rfl, q4989, qs119⟩⟩
theorem mcok_118 : mcOK (118, yX6_factorial, cX6_factorial, 5, (some .int), 2, false, 6) := ⟨⟨rfl, by decide +kernel, by decide⟩, q5403, q5406, Or.inr ⟨rfl, q5405, qs203⟩⟩
theorem mcok_121 : mcOK (121, yX6_addValues, cX6_addValues, 6, (some .boolean), 4, false, 5) := ⟨⟨rfl, by decide +kernel, by decide⟩, q5286, q5289, Or.inr ⟨rfl, q5288, qs175⟩⟩
theorem mcok_125 : mcOK (125, yX6_remainder, cX6_remainder, 4, (some .int), 3, false, 5) := ⟨⟨rfl, by decide +kernel, by decide⟩, q5419, q5422, Or.inr ⟨rfl, q5421, qs207⟩⟩
theorem mcok_129 : mcOK (129, yX6_power, cX6_power, 6, (some .int), 3, false, 7) := ⟨⟨rfl, by decide +kernel, by decide⟩, q5423, q5426, Or.inr ⟨rfl, q5425, qs208⟩⟩
theorem mcok_132 : mcOK (132, yX6_compareValues, cX6_compareValues, 3, (some .int), 2, false, 3) := ⟨⟨rfl, by decide +kernel, by decide⟩, q5367, q5370, Or.inr ⟨rfl, q5369, qs195⟩⟩
theorem mcok_156 : mcOK (156, yX6_signOf, cX6_signOf, 1, (some .int), 1, true, 0) := ⟨⟨rfl, by decide +kernel, by decide⟩, q4703, q4705, Or.inl ⟨rfl, q4704⟩⟩
theorem mcok_323 : mcOK (323, yX6_tellFirst, cX6_tellFirst, 6, none, 5, false, 1) := ⟨⟨rfl, by decide +kernel, by decide⟩, q4699, q4702, Or.inr ⟨rfl, q4701, qs114⟩⟩
theorem mcok_333 : mcOK (333, yX6_typedAt, cX6_typedAt, 2, (some .int), 1, false, 0) := ⟨⟨rfl, by decide +kernel, by decide⟩, q5026, q5029, Or.inr ⟨rfl, q5028, qs125⟩⟩
theorem mcok_336 : mcOK (336, yX6_digit, cX6_digit, 3, (some .int), 2, true, 1) := ⟨⟨rfl, by decide +kernel, by decide⟩, q5030, q5032, Or.inl ⟨rfl, q5031⟩⟩
theorem mcok_339 : mcOK (339, yX6_word, cX6_word, 4, none, 3, false, 0) := ⟨⟨rfl, by decide +kernel, by decide⟩, q5033, q5036, Or.inr ⟨rfl, q5035, qs126⟩⟩
theorem mcok_346 : mcOK (346, yX6_number, cX6_number, 8, (some .int), 1, false, 2) := ⟨⟨rfl, by decide +kernel, by decide⟩, q5022, q5025, Or.inr ⟨rfl, q5024, qs124⟩⟩
theorem mcok_358 : mcOK (358, yX6_does, cX6_does, 7, none, 4, false, 0) := ⟨⟨rfl, by decide +kernel, by decide⟩, q5049, q5052, Or.inr ⟨rfl, q5051, qs130⟩⟩
theorem mcok_361 : mcOK (361, yX6_rankOf, cX6_rankOf, 3, (some .int), 2, false, 1) := ⟨⟨rfl, by decide +kernel, by decide⟩, q5057, q5060, Or.inr ⟨rfl, q5059, qs132⟩⟩
theorem mcok_364 : mcOK (364, yX6_nextWord, cX6_nextWord, 3, (some .int), 1, false, 0) := ⟨⟨rfl, by decide +kernel, by decide⟩, q5041, q5044, Or.inr ⟨rfl, q5043, qs128⟩⟩
theorem mcok_367 : mcOK (367, yX6_opens, cX6_opens, 4, none, 3, false, 0) := ⟨⟨rfl, by decide +kernel, by decide⟩, q5053, q5056, Or.inr ⟨rfl, q5055, qs131⟩⟩
theorem mcok_369 : mcOK (369, yX6_reduce, cX6_reduce, 3, none, 1, false, 1) := ⟨⟨rfl, by decide +kernel, by decide⟩, q5073, q5076, Or.inr ⟨rfl, q5075, qs136⟩⟩
theorem mcok_372 : mcOK (372, yX6_isNeither, cX6_isNeither, 3, (some .boolean), 1, false, 2) := ⟨⟨rfl, by decide +kernel, by decide⟩, q5077, q5080, Or.inr ⟨rfl, q5079, qs137⟩⟩
theorem mcok_375 : mcOK (375, yX6_sign, cX6_sign, 5, (some .boolean), 2, false, 3) := ⟨⟨rfl, by decide +kernel, by decide⟩, q5069, q5072, Or.inr ⟨rfl, q5071, qs135⟩⟩
theorem mcok_377 : mcOK (377, yX6_operand, cX6_operand, 4, (some .boolean), 1, false, 2) := ⟨⟨rfl, by decide +kernel, by decide⟩, q5045, q5048, Or.inr ⟨rfl, q5047, qs129⟩⟩
theorem mcok_380 : mcOK (380, yX6_opensCall, cX6_opensCall, 3, (some .boolean), 1, false, 1) := ⟨⟨rfl, by decide +kernel, by decide⟩, q5061, q5064, Or.inr ⟨rfl, q5063, qs133⟩⟩
theorem mcok_383 : mcOK (383, yX6_operator, cX6_operator, 2, (some .boolean), 1, false, 4) := ⟨⟨rfl, by decide +kernel, by decide⟩, q5065, q5068, Or.inr ⟨rfl, q5067, qs134⟩⟩
theorem mcok_386 : mcOK (386, yX6_node, cX6_node, 6, none, 5, false, 0) := ⟨⟨rfl, by decide +kernel, by decide⟩, q5089, q5092, Or.inr ⟨rfl, q5091, qs139⟩⟩
theorem mcok_389 : mcOK (389, yX6_span, cX6_span, 6, none, 2, false, 0) := ⟨⟨rfl, by decide +kernel, by decide⟩, q5093, q5096, Or.inr ⟨rfl, q5095, qs140⟩⟩
theorem mcok_392 : mcOK (392, yX6_lex, cX6_lex, 4, none, 0, false, 3) := ⟨⟨rfl, by decide +kernel, by decide⟩, q5015, q5018, Or.inr ⟨rfl, q5017, qs123⟩⟩
theorem mcok_395 : mcOK (395, yX6_parse, cX6_parse, 4, (some .int), 0, false, 5) := ⟨⟨rfl, by decide +kernel, by decide⟩, q5037, q5040, Or.inr ⟨rfl, q5039, qs127⟩⟩
theorem mcok_402 : mcOK (402, yX6_task, cX6_task, 3, none, 2, false, 0) := ⟨⟨rfl, by decide +kernel, by decide⟩, q5182, q5185, Or.inr ⟨rfl, q5184, qs152⟩⟩
theorem mcok_405 : mcOK (405, yX6_child, cX6_child, 5, (some .int), 2, false, 0) := ⟨⟨rfl, by decide +kernel, by decide⟩, q5190, q5193, Or.inr ⟨rfl, q5192, qs154⟩⟩
theorem mcok_408 : mcOK (408, yX6_operandTask, cX6_operandTask, 3, none, 1, false, 1) := ⟨⟨rfl, by decide +kernel, by decide⟩, q5194, q5197, Or.inr ⟨rfl, q5196, qs155⟩⟩
theorem mcok_411 : mcOK (411, yX6_tasksOf, cX6_tasksOf, 3, none, 1, false, 2) := ⟨⟨rfl, by decide +kernel, by decide⟩, q5186, q5189, Or.inr ⟨rfl, q5188, qs153⟩⟩
theorem mcok_414 : mcOK (414, yX6_lay, cX6_lay, 7, (some .int), 1, false, 1) := ⟨⟨rfl, by decide +kernel, by decide⟩, q5085, q5088, Or.inr ⟨rfl, q5087, qs138⟩⟩
theorem mcok_417 : mcOK (417, yX6_areSame, cX6_areSame, 6, (some .boolean), 2, false, 0) := ⟨⟨rfl, by decide +kernel, by decide⟩, q5132, q5135, Or.inr ⟨rfl, q5134, qs146⟩⟩
theorem mcok_420 : mcOK (420, yX6_wordsOf, cX6_wordsOf, 4, none, 1, false, 3) := ⟨⟨rfl, by decide +kernel, by decide⟩, q5178, q5181, Or.inr ⟨rfl, q5180, qs151⟩⟩
theorem mcok_423 : mcOK (423, yX6_setGone, cX6_setGone, 3, none, 2, false, 0) := ⟨⟨rfl, by decide +kernel, by decide⟩, q5198, q5201, Or.inr ⟨rfl, q5200, qs156⟩⟩
theorem mcok_427 : mcOK (427, yX6_makes, cX6_makes, 2, (some .boolean), 1, false, 6) := ⟨⟨rfl, by decide +kernel, by decide⟩, q5202, q5205, Or.inr ⟨rfl, q5204, qs157⟩⟩
theorem mcok_433 : mcOK (433, yX6_prints, cX6_prints, 2, none, 1, false, 0) := ⟨⟨rfl, by decide +kernel, by decide⟩, q5214, q5217, Or.inr ⟨rfl, q5216, qs160⟩⟩
theorem mcok_436 : mcOK (436, yX6_outNumber, cX6_outNumber, 3, none, 1, false, 1) := ⟨⟨rfl, by decide +kernel, by decide⟩, q5210, q5213, Or.inr ⟨rfl, q5212, qs159⟩⟩
theorem mcok_439 : mcOK (439, yX6_inOrder, cX6_inOrder, 5, (some .int), 1, false, 0) := ⟨⟨rfl, by decide +kernel, by decide⟩, q5230, q5233, Or.inr ⟨rfl, q5232, qs163⟩⟩
theorem mcok_451 : mcOK (451, yX6_count, cX6_count, 1, (some .int), 0, false, 0) := ⟨⟨rfl, by decide +kernel, by decide⟩, q5258, q5261, Or.inr ⟨rfl, q5260, qs168⟩⟩
theorem mcok_454 : mcOK (454, yX6_look, cX6_look, 4, (some .int), 2, false, 1) := ⟨⟨rfl, by decide +kernel, by decide⟩, q5262, q5265, Or.inr ⟨rfl, q5264, qs169⟩⟩
theorem mcok_457 : mcOK (457, yX6_enter, cX6_enter, 3, none, 2, false, 0) := ⟨⟨rfl, by decide +kernel, by decide⟩, q5250, q5253, Or.inr ⟨rfl, q5252, qs166⟩⟩
theorem mcok_460 : mcOK (460, yX6_top, cX6_top, 1, (some .int), 0, false, 0) := ⟨⟨rfl, by decide +kernel, by decide⟩, q5270, q5273, Or.inr ⟨rfl, q5272, qs171⟩⟩
theorem mcok_466 : mcOK (466, yX6_goOnSum, cX6_goOnSum, 5, (some .int), 2, false, 6) := ⟨⟨rfl, by decide +kernel, by decide⟩, q5282, q5285, Or.inr ⟨rfl, q5284, qs174⟩⟩
theorem mcok_469 : mcOK (469, yX6_beginSum, cX6_beginSum, 7, (some .int), 2, false, 6) := ⟨⟨rfl, by decide +kernel, by decide⟩, q5359, q5362, Or.inr ⟨rfl, q5361, qs193⟩⟩
theorem mcok_475 : mcOK (475, yX6_holds, cX6_holds, 3, none, 2, false, 0) := ⟨⟨rfl, by decide +kernel, by decide⟩, q5384, q5387, Or.inr ⟨rfl, q5386, qs199⟩⟩
theorem mcok_478 : mcOK (478, yX6_caseAt, cX6_caseAt, 3, (some .int), 3, true, 0) := ⟨⟨rfl, by decide +kernel, by decide⟩, q5388, q5390, Or.inl ⟨rfl, q5389⟩⟩
theorem mcok_481 : mcOK (481, yX6_cases, cX6_cases, 5, (some .int), 2, false, 1) := ⟨⟨rfl, by decide +kernel, by decide⟩, q5380, q5383, Or.inr ⟨rfl, q5382, qs198⟩⟩
theorem mcok_484 : mcOK (484, yX6_meaningAt, cX6_meaningAt, 2, (some .int), 1, false, 1) := ⟨⟨rfl, by decide +kernel, by decide⟩, q5391, q5394, Or.inr ⟨rfl, q5393, qs200⟩⟩
theorem mcok_487 : mcOK (487, yX6_callFunction, cX6_callFunction, 6, (some .int), 3, false, 1) := ⟨⟨rfl, by decide +kernel, by decide⟩, q5395, q5398, Or.inr ⟨rfl, q5397, qs201⟩⟩
theorem mcok_490 : mcOK (490, yX6_one, cX6_one, 3, (some .int), 2, false, 7) := ⟨⟨rfl, by decide +kernel, by decide⟩, q5399, q5402, Or.inr ⟨rfl, q5401, qs202⟩⟩
theorem mcok_493 : mcOK (493, yX6_two, cX6_two, 5, (some .int), 3, false, 8) := ⟨⟨rfl, by decide +kernel, by decide⟩, q5411, q5414, Or.inr ⟨rfl, q5413, qs205⟩⟩
theorem mcok_496 : mcOK (496, yX6_leaf, cX6_leaf, 5, (some .int), 2, false, 3) := ⟨⟨rfl, by decide +kernel, by decide⟩, q5254, q5257, Or.inr ⟨rfl, q5256, qs167⟩⟩
theorem mcok_499 : mcOK (499, yX6_choose, cX6_choose, 4, (some .int), 2, false, 1) := ⟨⟨rfl, by decide +kernel, by decide⟩, q5266, q5269, Or.inr ⟨rfl, q5268, qs170⟩⟩
theorem mcok_502 : mcOK (502, yX6_sums, cX6_sums, 4, (some .int), 2, false, 7) := ⟨⟨rfl, by decide +kernel, by decide⟩, q5278, q5281, Or.inr ⟨rfl, q5280, qs173⟩⟩
theorem mcok_505 : mcOK (505, yX6_applies, cX6_applies, 6, (some .int), 2, false, 9) := ⟨⟨rfl, by decide +kernel, by decide⟩, q5376, q5379, Or.inr ⟨rfl, q5378, qs197⟩⟩
theorem mcok_515 : mcOK (515, yX6_copyNodes, cX6_copyNodes, 5, none, 3, false, 0) := ⟨⟨rfl, by decide +kernel, by decide⟩, q4991, q4994, Or.inr ⟨rfl, q4993, qs120⟩⟩
theorem mcok_518 : mcOK (518, yX6_isProduct, cX6_isProduct, 2, (some .boolean), 1, false, 2) := ⟨⟨rfl, by decide +kernel, by decide⟩, q5513, q5516, Or.inr ⟨rfl, q5515, qs222⟩⟩
theorem mcok_522 : mcOK (522, yX6_whole, cX6_whole, 7, (some .int), 3, false, 0) := ⟨⟨rfl, by decide +kernel, by decide⟩, q5495, q5498, Or.inr ⟨rfl, q5497, qs218⟩⟩
theorem mcok_525 : mcOK (525, yX6_becomes, cX6_becomes, 5, none, 2, false, 1) := ⟨⟨rfl, by decide +kernel, by decide⟩, q5501, q5504, Or.inr ⟨rfl, q5503, qs219⟩⟩
theorem mcok_528 : mcOK (528, yX6_isNumber, cX6_isNumber, 3, (some .boolean), 2, false, 0) := ⟨⟨rfl, by decide +kernel, by decide⟩, q5505, q5508, Or.inr ⟨rfl, q5507, qs220⟩⟩
theorem mcok_531 : mcOK (531, yX6_becomesInner, cX6_becomesInner, 6, none, 2, false, 1) := ⟨⟨rfl, by decide +kernel, by decide⟩, q5487, q5490, Or.inr ⟨rfl, q5489, qs216⟩⟩
theorem mcok_534 : mcOK (534, yX6_gathered, cX6_gathered, 4, (some .int), 2, false, 3) := ⟨⟨rfl, by decide +kernel, by decide⟩, q5509, q5512, Or.inr ⟨rfl, q5511, qs221⟩⟩
theorem mcok_537 : mcOK (537, yX6_ruleOfTwo, cX6_ruleOfTwo, 7, (some .int), 2, false, 4) := ⟨⟨rfl, by decide +kernel, by decide⟩, q5491, q5494, Or.inr ⟨rfl, q5493, qs217⟩⟩
theorem mcok_540 : mcOK (540, yX6_ruleAt, cX6_ruleAt, 3, (some .int), 1, false, 5) := ⟨⟨rfl, by decide +kernel, by decide⟩, q5483, q5486, Or.inr ⟨rfl, q5485, qs215⟩⟩
theorem mcok_546 : mcOK (546, yX6_coefficientAt, cX6_coefficientAt, 2, (some .int), 2, true, 0) := ⟨⟨rfl, by decide +kernel, by decide⟩, q5542, q5544, Or.inl ⟨rfl, q5543⟩⟩
theorem mcok_552 : mcOK (552, yX6_degreeOf, cX6_degreeOf, 3, (some .int), 1, false, 1) := ⟨⟨rfl, by decide +kernel, by decide⟩, q5553, q5556, Or.inr ⟨rfl, q5555, qs228⟩⟩
theorem mcok_555 : mcOK (555, yX6_clearWide, cX6_clearWide, 1, none, 0, false, 2) := ⟨⟨rfl, by decide +kernel, by decide⟩, q5557, q5560, Or.inr ⟨rfl, q5559, qs229⟩⟩
theorem mcok_558 : mcOK (558, yX6_addProduct, cX6_addProduct, 4, none, 3, false, 4) := ⟨⟨rfl, by decide +kernel, by decide⟩, q5561, q5564, Or.inr ⟨rfl, q5563, qs230⟩⟩
theorem mcok_561 : mcOK (561, yX6_storeWide, cX6_storeWide, 2, (some .boolean), 1, false, 5) := ⟨⟨rfl, by decide +kernel, by decide⟩, q5565, q5568, Or.inr ⟨rfl, q5567, qs231⟩⟩
theorem mcok_564 : mcOK (564, yX6_keepWhole, cX6_keepWhole, 5, none, 3, false, 0) := ⟨⟨rfl, by decide +kernel, by decide⟩, q5585, q5588, Or.inr ⟨rfl, q5587, qs236⟩⟩
theorem mcok_567 : mcOK (567, yX6_loadWhole, cX6_loadWhole, 4, none, 2, false, 0) := ⟨⟨rfl, by decide +kernel, by decide⟩, q5593, q5596, Or.inr ⟨rfl, q5595, qs238⟩⟩
theorem mcok_570 : mcOK (570, yX6_makeWhole, cX6_makeWhole, 3, none, 1, false, 3) := ⟨⟨rfl, by decide +kernel, by decide⟩, q5581, q5584, Or.inr ⟨rfl, q5583, qs235⟩⟩
theorem mcok_573 : mcOK (573, yX6_raiseWhole, cX6_raiseWhole, 5, none, 0, false, 3) := ⟨⟨rfl, by decide +kernel, by decide⟩, q5589, q5592, Or.inr ⟨rfl, q5591, qs237⟩⟩
theorem mcok_579 : mcOK (579, yX6_multiplyPolynomials, cX6_multiplyPolynomials, 7, (some .boolean), 3, false, 6) := ⟨⟨rfl, by decide +kernel, by decide⟩, q5549, q5552, Or.inr ⟨rfl, q5551, qs227⟩⟩
theorem mcok_582 : mcOK (582, yX6_copyPolynomial, cX6_copyPolynomial, 4, none, 2, false, 1) := ⟨⟨rfl, by decide +kernel, by decide⟩, q5569, q5572, Or.inr ⟨rfl, q5571, qs232⟩⟩
theorem mcok_585 : mcOK (585, yX6_scalePolynomials, cX6_scalePolynomials, 5, (some .boolean), 2, false, 6) := ⟨⟨rfl, by decide +kernel, by decide⟩, q5573, q5576, Or.inr ⟨rfl, q5575, qs233⟩⟩
theorem mcok_588 : mcOK (588, yX6_raisePolynomial, cX6_raisePolynomial, 5, (some .boolean), 2, false, 5) := ⟨⟨rfl, by decide +kernel, by decide⟩, q5577, q5580, Or.inr ⟨rfl, q5579, qs234⟩⟩
theorem mcok_591 : mcOK (591, yX6_clear, cX6_clear, 3, none, 1, false, 3) := ⟨⟨rfl, by decide +kernel, by decide⟩, q5538, q5541, Or.inr ⟨rfl, q5540, qs225⟩⟩
theorem mcok_594 : mcOK (594, yX6_gatherTwo, cX6_gatherTwo, 7, (some .boolean), 2, false, 7) := ⟨⟨rfl, by decide +kernel, by decide⟩, q5545, q5548, Or.inr ⟨rfl, q5547, qs226⟩⟩
theorem mcok_597 : mcOK (597, yX6_gatherNode, cX6_gatherNode, 6, (some .boolean), 2, false, 8) := ⟨⟨rfl, by decide +kernel, by decide⟩, q5534, q5537, Or.inr ⟨rfl, q5536, qs224⟩⟩
theorem mcok_600 : mcOK (600, yX6_isTold, cX6_isTold, 3, (some .boolean), 1, false, 2) := ⟨⟨rfl, by decide +kernel, by decide⟩, q5613, q5616, Or.inr ⟨rfl, q5615, qs241⟩⟩
theorem mcok_609 : mcOK (609, yX6_addNodes, cX6_addNodes, 3, none, 2, false, 1) := ⟨⟨rfl, by decide +kernel, by decide⟩, q5625, q5628, Or.inr ⟨rfl, q5627, qs244⟩⟩
theorem mcok_612 : mcOK (612, yX6_signBetween, cX6_signBetween, 5, (some .int), 1, false, 1) := ⟨⟨rfl, by decide +kernel, by decide⟩, q5633, q5636, Or.inr ⟨rfl, q5635, qs246⟩⟩
theorem mcok_615 : mcOK (615, yX6_add, cX6_add, 5, none, 4, false, 1) := ⟨⟨rfl, by decide +kernel, by decide⟩, q5617, q5620, Or.inr ⟨rfl, q5619, qs242⟩⟩
theorem mcok_618 : mcOK (618, yX6_addDerived, cX6_addDerived, 3, none, 2, false, 2) := ⟨⟨rfl, by decide +kernel, by decide⟩, q5621, q5624, Or.inr ⟨rfl, q5623, qs243⟩⟩
theorem mcok_621 : mcOK (621, yX6_addTree, cX6_addTree, 2, none, 1, false, 2) := ⟨⟨rfl, by decide +kernel, by decide⟩, q5637, q5640, Or.inr ⟨rfl, q5639, qs247⟩⟩
theorem mcok_624 : mcOK (624, yX6_areTold, cX6_areTold, 4, (some .boolean), 1, false, 3) := ⟨⟨rfl, by decide +kernel, by decide⟩, q5609, q5612, Or.inr ⟨rfl, q5611, qs240⟩⟩
theorem mcok_627 : mcOK (627, yX6_deriveTwo, cX6_deriveTwo, 7, none, 3, false, 3) := ⟨⟨rfl, by decide +kernel, by decide⟩, q5629, q5632, Or.inr ⟨rfl, q5631, qs245⟩⟩
theorem mcok_633 : mcOK (633, yX6_valueAt, cX6_valueAt, 1, (some .int), 1, true, 0) := ⟨⟨rfl, by decide +kernel, by decide⟩, q5657, q5659, Or.inl ⟨rfl, q5658⟩⟩
theorem mcok_636 : mcOK (636, yX6_partOfPower, cX6_partOfPower, 4, (some .boolean), 2, false, 7) := ⟨⟨rfl, by decide +kernel, by decide⟩, q5660, q5663, Or.inr ⟨rfl, q5662, qs251⟩⟩
theorem mcok_639 : mcOK (639, yX6_partOfQuotient, cX6_partOfQuotient, 3, (some .boolean), 2, false, 5) := ⟨⟨rfl, by decide +kernel, by decide⟩, q5664, q5667, Or.inr ⟨rfl, q5666, qs252⟩⟩
theorem mcok_642 : mcOK (642, yX6_pairTwo, cX6_pairTwo, 8, (some .int), 2, false, 9) := ⟨⟨rfl, by decide +kernel, by decide⟩, q5653, q5656, Or.inr ⟨rfl, q5655, qs250⟩⟩
theorem mcok_645 : mcOK (645, yX6_partAt, cX6_partAt, 1, (some .int), 1, true, 0) := ⟨⟨rfl, by decide +kernel, by decide⟩, q5668, q5670, Or.inl ⟨rfl, q5669⟩⟩
theorem mcok_648 : mcOK (648, yX6_pairNode, cX6_pairNode, 4, (some .int), 2, false, 10) := ⟨⟨rfl, by decide +kernel, by decide⟩, q5649, q5652, Or.inr ⟨rfl, q5651, qs249⟩⟩
theorem mcok_657 : mcOK (657, yX6_note, cX6_note, 7, (some .int), 5, false, 0) := ⟨⟨rfl, by decide +kernel, by decide⟩, q5104, q5107, Or.inr ⟨rfl, q5106, qs142⟩⟩
theorem mcok_664 : mcOK (664, yX6_isTree, cX6_isTree, 2, (some .boolean), 1, false, 1) := ⟨⟨rfl, by decide +kernel, by decide⟩, q5120, q5123, Or.inr ⟨rfl, q5122, qs144⟩⟩
theorem mcok_667 : mcOK (667, yX6_shelf, cX6_shelf, 1, (some .int), 1, true, 0) := ⟨⟨rfl, by decide +kernel, by decide⟩, q5101, q5103, Or.inl ⟨rfl, q5102⟩⟩
theorem mcok_670 : mcOK (670, yX6_refused, cX6_refused, 4, (some .boolean), 3, false, 0) := ⟨⟨rfl, by decide +kernel, by decide⟩, q4999, q5002, Or.inr ⟨rfl, q5001, qs121⟩⟩
theorem mcok_674 : mcOK (674, yX6_faultOf, cX6_faultOf, 2, (some .int), 0, false, 6) := ⟨⟨rfl, by decide +kernel, by decide⟩, q5011, q5014, Or.inr ⟨rfl, q5013, qs122⟩⟩
theorem mcok_677 : mcOK (677, yX6_shelve, cX6_shelve, 3, (some .int), 2, false, 1) := ⟨⟨rfl, by decide +kernel, by decide⟩, q5097, q5100, Or.inr ⟨rfl, q5099, qs141⟩⟩
theorem mcok_680 : mcOK (680, yX6_isNode, cX6_isNode, 3, (some .boolean), 2, false, 2) := ⟨⟨rfl, by decide +kernel, by decide⟩, q5116, q5119, Or.inr ⟨rfl, q5118, qs143⟩⟩
theorem mcok_683 : mcOK (683, yX6_parentOf, cX6_parentOf, 4, (some .int), 2, false, 0) := ⟨⟨rfl, by decide +kernel, by decide⟩, q5124, q5127, Or.inr ⟨rfl, q5126, qs145⟩⟩
theorem mcok_686 : mcOK (686, yX6_isRange, cX6_isRange, 3, (some .boolean), 2, false, 0) := ⟨⟨rfl, by decide +kernel, by decide⟩, q5151, q5154, Or.inr ⟨rfl, q5153, qs148⟩⟩
theorem mcok_689 : mcOK (689, yX6_isName, cX6_isName, 1, (some .boolean), 1, true, 1) := ⟨⟨rfl, by decide +kernel, by decide⟩, q5144, q5146, Or.inl ⟨rfl, q5145⟩⟩
theorem mcok_692 : mcOK (692, yX6_grafted, cX6_grafted, 8, (some .int), 3, false, 1) := ⟨⟨rfl, by decide +kernel, by decide⟩, q5147, q5150, Or.inr ⟨rfl, q5149, qs147⟩⟩
theorem mcok_695 : mcOK (695, yX6_isMeaning, cX6_isMeaning, 3, (some .boolean), 2, true, 1) := ⟨⟨rfl, by decide +kernel, by decide⟩, q5159, q5161, Or.inl ⟨rfl, q5160⟩⟩
theorem mcok_698 : mcOK (698, yX6_isOther, cX6_isOther, 6, (some .boolean), 3, false, 0) := ⟨⟨rfl, by decide +kernel, by decide⟩, q5162, q5165, Or.inr ⟨rfl, q5164, qs149⟩⟩
theorem mcok_701 : mcOK (701, yX6_fewest, cX6_fewest, 3, none, 1, false, 7) := ⟨⟨rfl, by decide +kernel, by decide⟩, q5174, q5177, Or.inr ⟨rfl, q5176, qs150⟩⟩
theorem mcok_704 : mcOK (704, yX6_outWords, cX6_outWords, 2, none, 0, false, 2) := ⟨⟨rfl, by decide +kernel, by decide⟩, q5206, q5209, Or.inr ⟨rfl, q5208, qs158⟩⟩
theorem mcok_707 : mcOK (707, yX6_hasOwnCall, cX6_hasOwnCall, 4, (some .boolean), 1, false, 0) := ⟨⟨rfl, by decide +kernel, by decide⟩, q5222, q5225, Or.inr ⟨rfl, q5224, qs161⟩⟩
theorem mcok_710 : mcOK (710, yX6_outPostfix, cX6_outPostfix, 5, none, 1, false, 2) := ⟨⟨rfl, by decide +kernel, by decide⟩, q5226, q5229, Or.inr ⟨rfl, q5228, qs162⟩⟩
theorem mcok_713 : mcOK (713, yX6_run, cX6_run, 6, (some .int), 1, false, 10) := ⟨⟨rfl, by decide +kernel, by decide⟩, q5246, q5249, Or.inr ⟨rfl, q5248, qs165⟩⟩
theorem mcok_716 : mcOK (716, yX6_answers, cX6_answers, 3, (some .int), 1, false, 11) := ⟨⟨rfl, by decide +kernel, by decide⟩, q5242, q5245, Or.inr ⟨rfl, q5244, qs164⟩⟩
theorem mcok_719 : mcOK (719, yX6_noteValue, cX6_noteValue, 3, none, 1, false, 1) := ⟨⟨rfl, by decide +kernel, by decide⟩, q5443, q5446, Or.inr ⟨rfl, q5445, qs210⟩⟩
theorem mcok_722 : mcOK (722, yX6_noteFunction, cX6_noteFunction, 4, none, 1, false, 1) := ⟨⟨rfl, by decide +kernel, by decide⟩, q5459, q5462, Or.inr ⟨rfl, q5461, qs211⟩⟩
theorem mcok_725 : mcOK (725, yX6_layCase, cX6_layCase, 5, none, 3, false, 1) := ⟨⟨rfl, by decide +kernel, by decide⟩, q5467, q5470, Or.inr ⟨rfl, q5469, qs212⟩⟩
theorem mcok_728 : mcOK (728, yX6_takeWork, cX6_takeWork, 2, none, 1, false, 1) := ⟨⟨rfl, by decide +kernel, by decide⟩, q5475, q5478, Or.inr ⟨rfl, q5477, qs213⟩⟩
theorem mcok_731 : mcOK (731, yX6_stepWork, cX6_stepWork, 5, (some .boolean), 0, false, 6) := ⟨⟨rfl, by decide +kernel, by decide⟩, q5479, q5482, Or.inr ⟨rfl, q5481, qs214⟩⟩
theorem mcok_735 : mcOK (735, yX6_gathers, cX6_gathers, 6, (some .boolean), 2, false, 9) := ⟨⟨rfl, by decide +kernel, by decide⟩, q5530, q5533, Or.inr ⟨rfl, q5532, qs223⟩⟩
theorem mcok_738 : mcOK (738, yX6_derives, cX6_derives, 6, (some .int), 2, false, 4) := ⟨⟨rfl, by decide +kernel, by decide⟩, q5605, q5608, Or.inr ⟨rfl, q5607, qs239⟩⟩
theorem mcok_741 : mcOK (741, yX6_slopes, cX6_slopes, 6, (some .int), 2, false, 11) := ⟨⟨rfl, by decide +kernel, by decide⟩, q5645, q5648, Or.inr ⟨rfl, q5647, qs248⟩⟩
theorem mcok_744 : mcOK (744, yX6_copyWideAside, cX6_copyWideAside, 2, none, 0, false, 0) := ⟨⟨rfl, by decide +kernel, by decide⟩, q5675, q5678, Or.inr ⟨rfl, q5677, qs253⟩⟩
theorem mcok_747 : mcOK (747, yX6_loadAside, cX6_loadAside, 2, none, 0, false, 0) := ⟨⟨rfl, by decide +kernel, by decide⟩, q5679, q5682, Or.inr ⟨rfl, q5681, qs254⟩⟩
theorem mcok_750 : mcOK (750, yX6_isPrinted, cX6_isPrinted, 4, (some .boolean), 1, false, 8) := ⟨⟨rfl, by decide +kernel, by decide⟩, q5687, q5690, Or.inr ⟨rfl, q5689, qs255⟩⟩
theorem mcok_753 : mcOK (753, yX6_isSimpler, cX6_isSimpler, 9, (some .boolean), 1, false, 11) := ⟨⟨rfl, by decide +kernel, by decide⟩, q5691, q5694, Or.inr ⟨rfl, q5693, qs256⟩⟩
theorem mcok_756 : mcOK (756, yX6_isSlope, cX6_isSlope, 4, (some .boolean), 2, false, 12) := ⟨⟨rfl, by decide +kernel, by decide⟩, q5695, q5698, Or.inr ⟨rfl, q5697, qs257⟩⟩
theorem mcalL_ok : ∀ q ∈ mcalL, mcOK q := List.forall_mem_cons.mpr ⟨mcok_15, List.forall_mem_cons.mpr ⟨mcok_21, List.forall_mem_cons.mpr ⟨mcok_25, List.forall_mem_cons.mpr ⟨mcok_29, List.forall_mem_cons.mpr ⟨mcok_33, List.forall_mem_cons.mpr ⟨mcok_37, List.forall_mem_cons.mpr ⟨mcok_40, List.forall_mem_cons.mpr ⟨mcok_43, List.forall_mem_cons.mpr ⟨mcok_49, List.forall_mem_cons.mpr ⟨mcok_53, List.forall_mem_cons.mpr ⟨mcok_56, List.forall_mem_cons.mpr ⟨mcok_59, List.forall_mem_cons.mpr ⟨mcok_62, List.forall_mem_cons.mpr ⟨mcok_66, List.forall_mem_cons.mpr ⟨mcok_69, List.forall_mem_cons.mpr ⟨mcok_72, List.forall_mem_cons.mpr ⟨mcok_75, List.forall_mem_cons.mpr ⟨mcok_78, List.forall_mem_cons.mpr ⟨mcok_81, List.forall_mem_cons.mpr ⟨mcok_84, List.forall_mem_cons.mpr ⟨mcok_88, List.forall_mem_cons.mpr ⟨mcok_92, List.forall_mem_cons.mpr ⟨mcok_96, List.forall_mem_cons.mpr ⟨mcok_99, List.forall_mem_cons.mpr ⟨mcok_103, List.forall_mem_cons.mpr ⟨mcok_106, List.forall_mem_cons.mpr ⟨mcok_109, List.forall_mem_cons.mpr ⟨mcok_112, List.forall_mem_cons.mpr ⟨mcok_115, List.forall_mem_cons.mpr ⟨mcok_118, List.forall_mem_cons.mpr ⟨mcok_121, List.forall_mem_cons.mpr ⟨mcok_125, List.forall_mem_cons.mpr ⟨mcok_129, List.forall_mem_cons.mpr ⟨mcok_132, List.forall_mem_cons.mpr ⟨mcok_156, List.forall_mem_cons.mpr ⟨mcok_323, List.forall_mem_cons.mpr ⟨mcok_333, List.forall_mem_cons.mpr ⟨mcok_336, List.forall_mem_cons.mpr ⟨mcok_339, List.forall_mem_cons.mpr ⟨mcok_346, List.forall_mem_cons.mpr ⟨mcok_358, List.forall_mem_cons.mpr ⟨mcok_361, List.forall_mem_cons.mpr ⟨mcok_364, List.forall_mem_cons.mpr ⟨mcok_367, List.forall_mem_cons.mpr ⟨mcok_369, List.forall_mem_cons.mpr ⟨mcok_372, List.forall_mem_cons.mpr ⟨mcok_375, List.forall_mem_cons.mpr ⟨mcok_377, List.forall_mem_cons.mpr ⟨mcok_380, List.forall_mem_cons.mpr ⟨mcok_383, List.forall_mem_cons.mpr ⟨mcok_386, List.forall_mem_cons.mpr ⟨mcok_389, List.forall_mem_cons.mpr ⟨mcok_392, List.forall_mem_cons.mpr ⟨mcok_395, List.forall_mem_cons.mpr ⟨mcok_402, List.forall_mem_cons.mpr ⟨mcok_405, List.forall_mem_cons.mpr ⟨mcok_408, List.forall_mem_cons.mpr ⟨mcok_411, List.forall_mem_cons.mpr ⟨mcok_414, List.forall_mem_cons.mpr ⟨mcok_417, List.forall_mem_cons.mpr ⟨mcok_420, List.forall_mem_cons.mpr ⟨mcok_423, List.forall_mem_cons.mpr ⟨mcok_427, List.forall_mem_cons.mpr ⟨mcok_433, List.forall_mem_cons.mpr ⟨mcok_436, List.forall_mem_cons.mpr ⟨mcok_439, List.forall_mem_cons.mpr ⟨mcok_451, List.forall_mem_cons.mpr ⟨mcok_454, List.forall_mem_cons.mpr ⟨mcok_457, List.forall_mem_cons.mpr ⟨mcok_460, List.forall_mem_cons.mpr ⟨mcok_466, List.forall_mem_cons.mpr ⟨mcok_469, List.forall_mem_cons.mpr ⟨mcok_475, List.forall_mem_cons.mpr ⟨mcok_478, List.forall_mem_cons.mpr ⟨mcok_481, List.forall_mem_cons.mpr ⟨mcok_484, List.forall_mem_cons.mpr ⟨mcok_487, List.forall_mem_cons.mpr ⟨mcok_490, List.forall_mem_cons.mpr ⟨mcok_493, List.forall_mem_cons.mpr ⟨mcok_496, List.forall_mem_cons.mpr ⟨mcok_499, List.forall_mem_cons.mpr ⟨mcok_502, List.forall_mem_cons.mpr ⟨mcok_505, List.forall_mem_cons.mpr ⟨mcok_515, List.forall_mem_cons.mpr ⟨mcok_518, List.forall_mem_cons.mpr ⟨mcok_522, List.forall_mem_cons.mpr ⟨mcok_525, List.forall_mem_cons.mpr ⟨mcok_528, List.forall_mem_cons.mpr ⟨mcok_531, List.forall_mem_cons.mpr ⟨mcok_534, List.forall_mem_cons.mpr ⟨mcok_537, List.forall_mem_cons.mpr ⟨mcok_540, List.forall_mem_cons.mpr ⟨mcok_546, List.forall_mem_cons.mpr ⟨mcok_552, List.forall_mem_cons.mpr ⟨mcok_555, List.forall_mem_cons.mpr ⟨mcok_558, List.forall_mem_cons.mpr ⟨mcok_561, List.forall_mem_cons.mpr ⟨mcok_564, List.forall_mem_cons.mpr ⟨mcok_567, List.forall_mem_cons.mpr ⟨mcok_570, List.forall_mem_cons.mpr ⟨mcok_573, List.forall_mem_cons.mpr ⟨mcok_579, List.forall_mem_cons.mpr ⟨mcok_582, List.forall_mem_cons.mpr ⟨mcok_585, List.forall_mem_cons.mpr ⟨mcok_588, List.forall_mem_cons.mpr ⟨mcok_591, List.forall_mem_cons.mpr ⟨mcok_594, List.forall_mem_cons.mpr ⟨mcok_597, List.forall_mem_cons.mpr ⟨mcok_600, List.forall_mem_cons.mpr ⟨mcok_609, List.forall_mem_cons.mpr ⟨mcok_612, List.forall_mem_cons.mpr ⟨mcok_615, List.forall_mem_cons.mpr ⟨mcok_618, List.forall_mem_cons.mpr ⟨mcok_621, List.forall_mem_cons.mpr ⟨mcok_624, List.forall_mem_cons.mpr ⟨mcok_627, List.forall_mem_cons.mpr ⟨mcok_633, List.forall_mem_cons.mpr ⟨mcok_636, List.forall_mem_cons.mpr ⟨mcok_639, List.forall_mem_cons.mpr ⟨mcok_642, List.forall_mem_cons.mpr ⟨mcok_645, List.forall_mem_cons.mpr ⟨mcok_648, List.forall_mem_cons.mpr ⟨mcok_657, List.forall_mem_cons.mpr ⟨mcok_664, List.forall_mem_cons.mpr ⟨mcok_667, List.forall_mem_cons.mpr ⟨mcok_670, List.forall_mem_cons.mpr ⟨mcok_674, List.forall_mem_cons.mpr ⟨mcok_677, List.forall_mem_cons.mpr ⟨mcok_680, List.forall_mem_cons.mpr ⟨mcok_683, List.forall_mem_cons.mpr ⟨mcok_686, List.forall_mem_cons.mpr ⟨mcok_689, List.forall_mem_cons.mpr ⟨mcok_692, List.forall_mem_cons.mpr ⟨mcok_695, List.forall_mem_cons.mpr ⟨mcok_698, List.forall_mem_cons.mpr ⟨mcok_701, List.forall_mem_cons.mpr ⟨mcok_704, List.forall_mem_cons.mpr ⟨mcok_707, List.forall_mem_cons.mpr ⟨mcok_710, List.forall_mem_cons.mpr ⟨mcok_713, List.forall_mem_cons.mpr ⟨mcok_716, List.forall_mem_cons.mpr ⟨mcok_719, List.forall_mem_cons.mpr ⟨mcok_722, List.forall_mem_cons.mpr ⟨mcok_725, List.forall_mem_cons.mpr ⟨mcok_728, List.forall_mem_cons.mpr ⟨mcok_731, List.forall_mem_cons.mpr ⟨mcok_735, List.forall_mem_cons.mpr ⟨mcok_738, List.forall_mem_cons.mpr ⟨mcok_741, List.forall_mem_cons.mpr ⟨mcok_744, List.forall_mem_cons.mpr ⟨mcok_747, List.forall_mem_cons.mpr ⟨mcok_750, List.forall_mem_cons.mpr ⟨mcok_753, List.forall_mem_cons.mpr ⟨mcok_756, fun _ h => absurd h List.not_mem_nil⟩⟩⟩⟩⟩⟩⟩⟩⟩⟩⟩⟩⟩⟩⟩⟩⟩⟩⟩⟩⟩⟩⟩⟩⟩⟩⟩⟩⟩⟩⟩⟩⟩⟩⟩⟩⟩⟩⟩⟩⟩⟩⟩⟩⟩⟩⟩⟩⟩⟩⟩⟩⟩⟩⟩⟩⟩⟩⟩⟩⟩⟩⟩⟩⟩⟩⟩⟩⟩⟩⟩⟩⟩⟩⟩⟩⟩⟩⟩⟩⟩⟩⟩⟩⟩⟩⟩⟩⟩⟩⟩⟩⟩⟩⟩⟩⟩⟩⟩⟩⟩⟩⟩⟩⟩⟩⟩⟩⟩⟩⟩⟩⟩⟩⟩⟩⟩⟩⟩⟩⟩⟩⟩⟩⟩⟩⟩⟩⟩⟩⟩⟩⟩⟩⟩⟩⟩⟩⟩⟩⟩⟩⟩⟩⟩⟩⟩⟩⟩⟩⟩⟩⟩⟩
theorem mini_ok : Cond.initialized RX6 ∈ lw_all := q297

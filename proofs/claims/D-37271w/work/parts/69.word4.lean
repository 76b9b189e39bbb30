/-! the model's words: lex -/
set_option maxRecDepth 100000
/-- what kind of word a sign is, if it is no digit and no blank -/
def kdQ (c : Int) : Int := if 97 ≤ c ∧ c ≤ 122 then 1 else if c = 40 then 3 else if c = 41 then 4 else if c = 44 then 5 else if sgnOf c = -1 then -1 else 2
/-- the words from a place on, and whether the last one is a number without digits at the very end -/
def lexQ (L : List Int) : Nat → Nat → List wd × Int
  | 0, _ => ([], 0)
  | f + 1, i =>
    if L.length ≤ i then ([], 0)
    else if L[i]?.getD 0 = 32 then lexQ L f (i + 1)
    else if 48 ≤ L[i]?.getD 0 ∧ L[i]?.getD 0 ≤ 57 then
      (if (numQ L i).2.1 = 0 then (if (numQ L i).2.2 = L.length then ([(0, (numQ L i).1, (i : Int))], 1) else ([(0, (numQ L i).1, (i : Int)), (-1, 0, ((numQ L i).2.2 : Int))], 0))
      else ((0, (numQ L i).1, (i : Int)) :: (lexQ L f ((numQ L i).2.2 + (numQ L i).2.1)).1, (lexQ L f ((numQ L i).2.2 + (numQ L i).2.1)).2))
    else if kdQ (L[i]?.getD 0) = -1 then ([(-1, L[i]?.getD 0, (i : Int))], 0)
    else ((kdQ (L[i]?.getD 0), L[i]?.getD 0, (i : Int)) :: (lexQ L f (i + 1)).1, (lexQ L f (i + 1)).2)
theorem ws_last {S : mS} {L : List wd} {w : wd} (h : ws S (L ++ [w])) : S 25 0 = L.length + 1 ∧ S 20 (S 25 0 - 1) = w.1 := by
  obtain ⟨h0, h1, -⟩ := h
  rw [List.length_append, List.length_singleton] at h0
  refine ⟨by omega, ?_⟩
  rw [h0, show ((L.length + 1 : Nat) : Int) - 1 = L.length by omega]
  refine h1 L.length w.1 ?_
  rw [List.map_append, List.getElem?_append_right (by rw [List.length_map]; exact Nat.le_refl _), List.length_map, Nat.sub_self]
  rfl
theorem ws.keep {S S' : mS} {L : List wd} (h : ws S L) (e : ∀ k : Nat, 20 ≤ k → k ≤ 25 → S' k = S k) : ws S' L := by
  unfold ws at h ⊢
  rw [e 20 (by decide) (by decide), e 21 (by decide) (by decide), e 22 (by decide) (by decide), e 23 (by decide) (by decide), e 24 (by decide) (by decide), e 25 (by decide) (by decide)]
  exact h
theorem numQ_end (L : List Int) (i : Nat) : i ≤ (numQ L i).2.2 ∧ (numQ L i).2.2 ≤ i + 2 := by
  unfold numQ
  split
  · exact ⟨Nat.le_refl _, by show i ≤ i + 2; omega⟩
  · exact ⟨by show i ≤ i + 2; omega, Nat.le_refl _⟩
theorem numQ_pos {L : List Int} {i : Nat} (hi : i < L.length) (hc : 48 ≤ L[i] ∧ L[i] ≤ 57) (h0 : (numQ L i).2.1 = 0) : (numQ L i).2.2 = i + 2 := by
  unfold numQ at h0 ⊢
  split
  · rename_i z
    rw [if_pos z] at h0
    exfalso
    have h0 : (eatD 10 9 0 (L.drop i)).2 = 0 := h0
    rw [List.drop_eq_getElem_cons hi] at h0
    have : 0 ≤ digQ L[i] 10 := by
      unfold digQ
      rw [if_pos hc]
      split <;> omega
    rw [eatD_step (m := 8) this] at h0
    exact absurd h0 (by simp)
  · rfl
/-- the frame of lex -/
def lfr (S S' : mS) : Prop := ∀ k : Nat, (k < 20 ∨ 26 < k) → S' k = S k
theorem s_lex {g : mG} {S : mS} {L : List Int} {Qp : Option mV → mS → Prop} (ht : ty S L)
    (k : ∀ S', ws S' (lexQ L 61 0).1 → S' 26 0 = (lexQ L 61 0).2 → lfr S S' → Qp none S') : CX_lex g [mt] S Qp := by
  obtain ⟨t0, t1, t2⟩ := id ht
  have tk : ∀ T, lfr S T → ty T L := by
    intro T f
    unfold ty
    rw [f 18 (by decide), f 19 (by decide)]
    exact ht
  refine of_lex (fun n l1 T => ∃ (W : List wd) (f : Nat), 0 ≤ l1 ∧ ws T W ∧ T 26 0 = 0 ∧ lfr S T ∧ W.length + f ≤ 61 ∧ 61 ≤ l1 + f ∧ W ++ (lexQ L f l1.toNat).1 = (lexQ L 61 0).1 ∧ (lexQ L f l1.toNat).2 = (lexQ L 61 0).2 ∧ n = f) ?_ ?_
  · intro _
    refine ⟨61, [], 61, by omega, ⟨?_, ?_, ?_, ?_, fun i a b => ?_⟩, mup_eq, fun j hj => ?_, by simp, by omega, rfl, rfl, rfl⟩
    · rw [mup_ne (by decide), mup_eq]; rfl
    · intro i v e; exact absurd e (by simp)
    · intro i v e; exact absurd e (by simp)
    · intro i v e; exact absurd e (by simp)
    · exact absurd b (by simp; omega)
    · rw [mupf j (by omega), mupf j (by omega)]
  · rintro n l1 T hS _ ⟨W, f, b0, b1, b2, b3, b4, b5, b6, b7, rfl⟩
    have tT := tk T b3
    obtain ⟨u0, u1, u2⟩ := id tT
    rw [u0]
    refine ⟨fun c => ?_, fun c => ?_⟩
    · have e : lexQ L n l1.toNat = ([], 0) := by
        cases n with
        | zero => rfl
        | succ f =>
          show (if L.length ≤ l1.toNat then _ else _) = _
          rw [if_pos (by omega)]
      rw [e] at b6 b7
      rw [List.append_nil] at b6
      exact k T (by rw [← b6]; exact b1) (by rw [b2]; exact b7) b3
    · cases n with
      | zero => omega
      | succ f =>
        have lt : l1.toNat < L.length := by omega
        have e0 := List.getElem?_eq_getElem lt
        have e18 := u2 _ _ e0
        rw [show ((l1.toNat : Nat) : Int) = l1 by omega] at e18
        have eD : L[l1.toNat]?.getD 0 = L[l1.toNat] := by rw [e0]; rfl
        have ui : ((l1.toNat : Nat) : Int) = l1 := by omega
        have ui1 : (l1 + 1).toNat = l1.toNat + 1 := by omega
        have un : lexQ L (f + 1) l1.toNat = (if L.length ≤ l1.toNat then ([], 0)
          else if L[l1.toNat]?.getD 0 = 32 then lexQ L f (l1.toNat + 1)
          else if 48 ≤ L[l1.toNat]?.getD 0 ∧ L[l1.toNat]?.getD 0 ≤ 57 then
            (if (numQ L l1.toNat).2.1 = 0 then (if (numQ L l1.toNat).2.2 = L.length then ([(0, (numQ L l1.toNat).1, (l1.toNat : Int))], 1) else ([(0, (numQ L l1.toNat).1, (l1.toNat : Int)), (-1, 0, ((numQ L l1.toNat).2.2 : Int))], 0))
            else ((0, (numQ L l1.toNat).1, (l1.toNat : Int)) :: (lexQ L f ((numQ L l1.toNat).2.2 + (numQ L l1.toNat).2.1)).1, (lexQ L f ((numQ L l1.toNat).2.2 + (numQ L l1.toNat).2.1)).2))
          else if kdQ (L[l1.toNat]?.getD 0) = -1 then ([(-1, L[l1.toNat]?.getD 0, (l1.toNat : Int))], 0)
          else ((kdQ (L[l1.toNat]?.getD 0), L[l1.toNat]?.getD 0, (l1.toNat : Int)) :: (lexQ L f (l1.toNat + 1)).1, (lexQ L f (l1.toNat + 1)).2)) := rfl
        rw [if_neg (by omega), eD, ui] at un
        rw [e18]
        generalize ec : L[l1.toNat] = c at *
        refine ⟨by omega, by omega, fun c32 => ?_, fun c32 => ?_⟩
        · rw [if_neg c32] at un
          -- a word that is no number
          have wd : ∀ kd : Int, ¬ (48 ≤ c ∧ c ≤ 57) → kdQ c = kd → CX_word g [mt, mi kd, mi c, mi l1] T (Qv fun S9 => mI S9 → (-2147483648 ≤ ((S9 25 0) - 1) ∧ ((S9 25 0) - 1) ≤ 2147483647) ∧ (0 ≤ ((S9 25 0) - 1)) ∧ (((S9 25 0) - 1) < 1000) ∧ (((S9 20 ((S9 25 0) - 1)) ≠ (-1)) → (-2147483648 ≤ (l1 + 1) ∧ (l1 + 1) ≤ 2147483647) ∧ (∃ n1, n1 < f + 1 ∧ ∃ (W : List wd) (f : Nat), 0 ≤ l1 + 1 ∧ ws S9 W ∧ S9 26 0 = 0 ∧ lfr S S9 ∧ W.length + f ≤ 61 ∧ 61 ≤ l1 + 1 + f ∧ W ++ (lexQ L f (l1 + 1).toNat).1 = (lexQ L 61 0).1 ∧ (lexQ L f (l1 + 1).toNat).2 = (lexQ L 61 0).2 ∧ n1 = f)) ∧ (¬ ((S9 20 ((S9 25 0) - 1)) ≠ (-1)) → Qp none S9)) := by
            intro kd nd hk
            refine s_word b1 (by omega) (fun S9 h9 f9 => ?_)
            intro _
            obtain ⟨q1, q2⟩ := ws_last h9
            rw [q2, q1]
            have fr : lfr S S9 := fun j hj => (f9 j (by omega)).trans (b3 j hj)
            have s26 : S9 26 0 = 0 := by rw [f9 26 (by decide)]; exact b2
            rw [if_neg nd, hk] at un
            refine ⟨by omega, by omega, by omega, fun z => ⟨by omega, f, by omega, W ++ [(kd, c, l1)], f, by omega, h9, s26, fr, ?_, by omega, ?_, ?_, rfl⟩, fun z => ?_⟩
            · rw [List.length_append, List.length_singleton]; omega
            · rw [if_neg z] at un
              rw [un] at b6
              rw [← b6, ui1, List.append_assoc]
              rfl
            · rw [if_neg z] at un
              rw [un] at b7
              rw [← b7, ui1]
            · rw [if_pos (Decidable.not_not.mp z)] at un
              rw [un] at b6 b7
              have zz := Decidable.not_not.mp z
              have zk : kd = -1 := zz
              subst zk
              exact k S9 (by rw [← b6]; exact h9) (by rw [s26]; exact b7) fr
          refine s_in ?_
          intro _ _
          refine ⟨fun z => ?_, fun z => ?_⟩
          · have nd : ¬ (48 ≤ c ∧ c ≤ 57) := fun y => b01_ne.mpr y z
            refine s_in ?_
            intro _ _
            refine ⟨fun z2 => ?_, fun z2 => ?_⟩
            · have na : ¬ (97 ≤ c ∧ c ≤ 122) := fun y => b01_ne.mpr y z2
              refine ⟨fun z3 => ⟨fun z4 => ⟨fun z5 => ?_, fun z5 => ?_⟩, fun z4 => ?_⟩, fun z3 => ?_⟩
              · refine s_signOf ?_
                intro _ _
                refine ⟨fun z6 => wd (-1) nd ?_, fun z6 => wd 2 nd ?_⟩
                · unfold kdQ; rw [if_neg na, if_neg z3, if_neg z4, if_neg z5, if_pos z6]
                · unfold kdQ; rw [if_neg na, if_neg z3, if_neg z4, if_neg z5, if_neg z6]
              · exact wd 5 nd (by unfold kdQ; rw [if_neg na, if_neg z3, if_neg z4, if_pos (by omega)])
              · exact wd 4 nd (by unfold kdQ; rw [if_neg na, if_neg z3, if_pos (by omega)])
              · exact wd 3 nd (by unfold kdQ; rw [if_neg na, if_pos (by omega)])
            · exact wd 1 nd (by unfold kdQ; rw [if_pos (b01_ne.mp z2)])
          · rw [if_pos (b01_ne.mp z)] at un
            have ne := numQ_end L l1.toNat
            refine s_number ⟨b0, by omega⟩ tT b1 (by omega) (fun S39 h39 f39 => ?_)
            intro _ _
            have fr : lfr S S39 := fun j hj => (f39 j (by omega)).trans (b3 j hj)
            have s26 : S39 26 0 = 0 := by rw [f39 26 (by decide)]; exact b2
            have t39 := (tk S39 fr).1
            rw [t39]
            have np := numQ_pos (L := L) (i := l1.toNat) lt (by rw [ec]; exact b01_ne.mp z)
            generalize hq : numQ L l1.toNat = q at *
            obtain ⟨val, cnt, at0⟩ := q
            dsimp only at *
            by_cases hz : cnt = 0
            · have h2 := np hz
              rw [if_pos hz] at un ⊢
              have en : - -(at0 : Int) = at0 := by omega
              rw [en]
              refine ⟨fun y => by omega, fun y => ⟨by omega, fun y2 => ?_, fun y2 => ?_⟩⟩
              · rw [mup_eq]
                rw [if_neg (by omega)] at un
                rw [un] at b6 b7
                refine fun _ => ⟨fun y3 => absurd rfl y3, fun _ => ?_⟩
                have hw : ws (mup S39 26 0 0) (W ++ [(0, val, l1)]) := h39.keep (fun j c1 c2 => mupf j (by omega))
                refine s_word hw (by rw [List.length_append, List.length_singleton]; omega) (fun S42 h42 f42 => ?_)
                intro _
                rw [List.append_assoc] at h42
                refine k S42 (by rw [← b6]; exact h42) ?_ (fun j hj => ?_)
                · rw [f42 26 (by decide), mup_eq]; exact b7
                · rw [f42 j (by omega), mupf j (by omega)]; exact fr j hj
              · rw [mup_eq]
                rw [if_pos (by omega)] at un
                rw [un] at b6 b7
                refine fun _ => ⟨fun _ => ?_, fun y3 => absurd (by decide) y3⟩
                have hw : ws (mup S39 26 0 1) (W ++ [(0, val, l1)]) := h39.keep (fun j c1 c2 => mupf j (by omega))
                refine k _ (by rw [← b6]; exact hw) ?_ (fun j hj => ?_)
                · rw [mup_eq]; exact b7
                · rw [mupf j (by omega)]; exact fr j hj
            · rw [if_neg hz] at un ⊢
              rw [un] at b6 b7
              refine ⟨fun y => ⟨f, by omega, W ++ [(0, val, l1)], f, by omega, h39, s26, fr, ?_, by omega, ?_, ?_, rfl⟩, fun y => by omega⟩
              · rw [List.length_append, List.length_singleton]; omega
              · rw [← b6, show ((at0 : Int) + cnt).toNat = at0 + cnt by omega, List.append_assoc]
                rfl
              · rw [← b7, show ((at0 : Int) + cnt).toNat = at0 + cnt by omega]
        · rw [if_pos (Decidable.not_not.mp c32)] at un
          refine ⟨by omega, f, by omega, W, f, by omega, b1, b2, b3, by omega, by omega, ?_, ?_, rfl⟩
          · rw [← b6, un, ui1]
          · rw [← b7, un, ui1]

/-! trees: their nodes with operands ahead; inOrder -/
set_option maxRecDepth 100000
/-- places of a row's nodes, operands ahead of what has them; the first argument only bounds the depth -/
def pst : Nat → Int → List nd → List Int
  | 0, _, _ => []
  | _ + 1, _, [] => []
  | f + 1, p, x :: l => pst f (p + 1) (hd l (ar x)) ++ p :: pst f (p + 1 + (hd l (ar x)).length) (tl l (ar x))
/-- places of nodes whose trees end at e, the last first -/
def em (p : Int) : List nd → Int → List Int
  | [], _ => []
  | x :: l, e => em (p + 1) l e ++ (if p + spl (x :: l) = e then [p] else [])
def oc (p : Int) (l : List nd) : Nat → List Int
  | 0 => []
  | k + 1 => oc p l k ++ em p l (p + k + 1)
theorem spl_pos (x : nd) (l : List nd) : 0 < spl (x :: l) := by
  unfold spl
  show 0 < (x :: hd l (0 + ar x)).length
  rw [List.length_cons]
  omega
theorem spl_le (l : List nd) : spl l ≤ l.length := hd_len_le l 1
theorem em_low {e : Int} : ∀ {l : List nd} {p : Int}, e ≤ p → em p l e = []
  | [], p, _ => rfl
  | x :: l, p, h => by
    have := spl_pos x l
    show em (p + 1) l e ++ (if p + spl (x :: l) = e then [p] else []) = []
    rw [em_low (by omega), if_neg (by omega)]
    rfl
theorem em_high {e : Int} : ∀ {l : List nd} {p : Int}, p + l.length < e → em p l e = []
  | [], p, _ => rfl
  | x :: l, p, h => by
    have := spl_le (x :: l)
    rw [List.length_cons] at h this
    show em (p + 1) l e ++ (if p + spl (x :: l) = e then [p] else []) = []
    rw [em_high (by omega), if_neg (by omega)]
    rfl
theorem em_app {e : Int} : ∀ {a b : List nd} {n : Nat} {p : Int}, wf a n → em p (a ++ b) e = em (p + a.length) b e ++ em p a e
  | [], b, n, p, _ => by
    show em p b e = em (p + (([] : List nd).length : Nat)) b e ++ []
    rw [List.append_nil, List.length_nil, show p + ((0 : Nat) : Int) = p by omega]
  | x :: a, b, 0, p, w => w.elim
  | x :: a, b, n + 1, p, w => by
    have ih := em_app (e := e) (a := a) (b := b) (p := p + 1) w.2
    have es := spl_app b w (Nat.succ_pos n)
    show em (p + 1) (a ++ b) e ++ (if p + spl ((x :: a) ++ b) = e then [p] else []) = em (p + ((x :: a).length : Nat)) b e ++ (em (p + 1) a e ++ (if p + spl (x :: a) = e then [p] else []))
    rw [ih, es, List.append_assoc, List.length_cons, show p + 1 + (a.length : Int) = p + ((a.length + 1 : Nat) : Int) by omega]
theorem oc_app1 {a b : List nd} {n : Nat} {p : Int} (w : wf a n) : ∀ k : Nat, k ≤ a.length → oc p (a ++ b) k = oc p a k
  | 0, _ => rfl
  | k + 1, h => by
    show oc p (a ++ b) k ++ em p (a ++ b) (p + k + 1) = oc p a k ++ em p a (p + k + 1)
    rw [oc_app1 w k (by omega), em_app w, em_low (l := b) (by omega)]
    rfl
theorem oc_app2 {a b : List nd} {n : Nat} {p : Int} (w : wf a n) : ∀ k : Nat, oc p (a ++ b) (a.length + k) = oc p a a.length ++ oc (p + a.length) b k
  | 0 => by
    rw [Nat.add_zero, oc_app1 w _ (Nat.le_refl _)]
    show _ = _ ++ []
    rw [List.append_nil]
  | k + 1 => by
    show oc p (a ++ b) (a.length + k) ++ em p (a ++ b) (p + (a.length + k : Nat) + 1) = oc p a a.length ++ (oc (p + a.length) b k ++ em (p + a.length) b (p + a.length + k + 1))
    rw [oc_app2 w k, em_app w, em_high (l := a) (by omega), List.append_nil, List.append_assoc, show p + ((a.length + k : Nat) : Int) + 1 = p + a.length + k + 1 by omega]
theorem oc_node {x : nd} {l : List nd} {p : Int} (w : wf (x :: l) 1) : ∀ k : Nat, k ≤ l.length → oc p (x :: l) (k + 1) = oc (p + 1) l k ++ (if k = l.length then [p] else []) := by
  have sp : spl (x :: l) = l.length + 1 := by
    unfold spl
    rw [(wf_hd_self w).1, List.length_cons]
  intro k
  induction k with
  | zero =>
    intro _
    show [] ++ (em (p + 1) l (p + (0 : Nat) + 1) ++ (if p + spl (x :: l) = p + (0 : Nat) + 1 then [p] else [])) = [] ++ _
    rw [em_low (by omega), sp]
    by_cases c : 0 = l.length
    · rw [if_pos c, if_pos (by omega)]; rfl
    · rw [if_neg c, if_neg (by omega)]; rfl
  | succ k ih =>
    intro h
    show oc p (x :: l) (k + 1) ++ (em (p + 1) l (p + (k + 1 : Nat) + 1) ++ (if p + spl (x :: l) = p + (k + 1 : Nat) + 1 then [p] else [])) = oc (p + 1) l k ++ em (p + 1) l (p + 1 + k + 1) ++ _
    rw [ih (by omega), if_neg (by omega), List.append_nil, sp, show p + ((k + 1 : Nat) : Int) + 1 = p + 1 + k + 1 by omega, List.append_assoc]
    by_cases c : k + 1 = l.length
    · rw [if_pos c, if_pos (by omega)]
    · rw [if_neg c, if_neg (by omega)]
theorem oc_pst : ∀ (f : Nat) {l : List nd} {n : Nat} {p : Int}, wf l n → l.length ≤ f → oc p l l.length = pst f p l
  | 0, l, n, p, w, h => by
    have : l = [] := List.length_eq_zero_iff.mp (by omega)
    subst this
    rfl
  | f + 1, [], n, p, w, h => rfl
  | f + 1, x :: l, 0, p, w, h => w.elim
  | f + 1, x :: l, n + 1, p, w, h => by
    rw [List.length_cons] at h
    have w2 := w.2
    rw [Nat.add_comm] at w2
    obtain ⟨wa, wb⟩ := wf_split w2
    have e := hd_tl l (ar x)
    have le := congrArg List.length e
    rw [List.length_append] at le
    have ia := oc_pst f (p := p + 1) wa (by omega)
    have ib := oc_pst f (p := p + 1 + (hd l (ar x)).length) wb (by omega)
    show oc p (x :: l) (l.length + 1) = pst f (p + 1) (hd l (ar x)) ++ p :: pst f (p + 1 + (hd l (ar x)).length) (tl l (ar x))
    have w1 : wf (x :: hd l (ar x)) 1 := ⟨w.1, by rw [Nat.zero_add]; exact wa⟩
    have q := oc_app2 (b := tl l (ar x)) (p := p) w1 (tl l (ar x)).length
    rw [List.cons_append, e, List.length_cons] at q
    rw [show l.length + 1 = (hd l (ar x)).length + 1 + (tl l (ar x)).length by omega, q, oc_node w1 _ (Nat.le_refl _), if_pos rfl, ia]
    rw [show p + ((hd l (ar x)).length + 1 : Nat) = p + 1 + (hd l (ar x)).length by omega, ib, List.append_assoc]
    rfl
theorem pst_len : ∀ (f : Nat) {l : List nd} {p : Int}, l.length ≤ f → (pst f p l).length = l.length
  | 0, l, p, h => by
    have : l = [] := List.length_eq_zero_iff.mp (by omega)
    subst this
    rfl
  | f + 1, [], p, h => rfl
  | f + 1, x :: l, p, h => by
    rw [List.length_cons] at h
    have le := congrArg List.length (hd_tl l (ar x))
    rw [List.length_append] at le
    show (pst f (p + 1) (hd l (ar x)) ++ p :: pst f (p + 1 + (hd l (ar x)).length) (tl l (ar x))).length = _
    rw [List.length_append, List.length_cons, pst_len f (by omega), pst_len f (by omega), List.length_cons]
    omega
theorem em_drop {e : Int} : ∀ {l : List nd} {p : Int} (i : Nat), i ≤ l.length → ∃ r, em p l e = em (p + i) (l.drop i) e ++ r
  | l, p, 0, _ => ⟨[], by rw [List.append_nil, show p + ((0 : Nat) : Int) = p by omega]; rfl⟩
  | [], p, i + 1, h => absurd h (by simp)
  | x :: l, p, i + 1, h => by
    rw [List.length_cons] at h
    obtain ⟨r, hr⟩ := em_drop (e := e) (l := l) (p := p + 1) i (by omega)
    refine ⟨r ++ (if p + spl (x :: l) = e then [p] else []), ?_⟩
    show em (p + 1) l e ++ _ = _
    rw [hr, List.append_assoc, show p + 1 + (i : Int) = p + ((i + 1 : Nat) : Int) by omega]
    rfl
theorem oc_pre {p : Int} {l : List nd} {a : Nat} : ∀ b : Nat, ∃ r, oc p l (a + b) = oc p l a ++ r
  | 0 => ⟨[], by rw [List.append_nil]; rfl⟩
  | b + 1 => by
    obtain ⟨r, hr⟩ := oc_pre (p := p) (l := l) (a := a) b
    exact ⟨r ++ em p l (p + (a + b : Nat) + 1), by show oc p l (a + b) ++ em p l (p + (a + b : Nat) + 1) = _; rw [hr, List.append_assoc]⟩

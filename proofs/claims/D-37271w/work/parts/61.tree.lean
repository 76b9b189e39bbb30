/-! trees, their nodes in a row, each ahead of its operands; of rows of trees too -/
set_option maxRecDepth 100000
/-- a node: kind, what, fix, how many operands -/
abbrev nd := Int × Int × Int × Int
def nk (x : nd) : Int := x.1
def nw (x : nd) : Int := x.2.1
def nf (x : nd) : Int := x.2.2.1
def nc (x : nd) : Int := x.2.2.2
def ar (x : nd) : Nat := x.2.2.2.toNat
/-- the row is n trees -/
def wf : List nd → Nat → Prop
  | [], n => n = 0
  | _ :: _, 0 => False
  | x :: l, n + 1 => 0 ≤ nc x ∧ wf l (n + ar x)
/-- the first n trees of a row -/
def hd : List nd → Nat → List nd
  | [], _ => []
  | _ :: _, 0 => []
  | x :: l, n + 1 => x :: hd l (n + ar x)
/-- what is behind the first n trees of a row -/
def tl : List nd → Nat → List nd
  | [], _ => []
  | x :: l, 0 => x :: l
  | x :: l, n + 1 => tl l (n + ar x)
theorem hd0 (l : List nd) : hd l 0 = [] := by cases l <;> rfl
theorem tl0 (l : List nd) : tl l 0 = l := by cases l <;> rfl
theorem hd_tl : ∀ (l : List nd) (n : Nat), hd l n ++ tl l n = l
  | [], _ => rfl
  | x :: l, 0 => rfl
  | x :: l, n + 1 => by
    show x :: (hd l (n + ar x) ++ tl l (n + ar x)) = x :: l
    rw [hd_tl l]
theorem wf0 {l : List nd} (h : wf l 0) : l = [] := by
  cases l with
  | nil => rfl
  | cons x l => exact h.elim
theorem wf_split : ∀ {l : List nd} {a b : Nat}, wf l (a + b) → wf (hd l a) a ∧ wf (tl l a) b
  | [], a, b, h => by
    have h : a + b = 0 := h
    have h1 : a = 0 := by omega
    have h2 : b = 0 := by omega
    subst h1; subst h2
    exact ⟨rfl, rfl⟩
  | x :: l, 0, b, h => by
    rw [Nat.zero_add] at h
    exact ⟨rfl, h⟩
  | x :: l, a + 1, b, h => by
    rw [show a + 1 + b = (a + b) + 1 by omega] at h
    obtain ⟨h0, h1⟩ := h
    rw [show a + b + ar x = (a + ar x) + b by omega] at h1
    obtain ⟨g1, g2⟩ := wf_split h1
    exact ⟨⟨h0, g1⟩, g2⟩
theorem wf_app : ∀ {l m : List nd} {a b : Nat}, wf l a → wf m b → wf (l ++ m) (a + b)
  | [], m, a, b, h, h' => by
    have h : a = 0 := h
    subst h
    rw [Nat.zero_add]; exact h'
  | x :: l, m, 0, b, h, h' => h.elim
  | x :: l, m, a + 1, b, h, h' => by
    rw [show a + 1 + b = (a + b) + 1 by omega]
    refine ⟨h.1, ?_⟩
    rw [show a + b + ar x = (a + ar x) + b by omega]
    exact wf_app h.2 h'
theorem hd_app : ∀ {l : List nd} {a : Nat} (m : List nd), wf l a → hd (l ++ m) a = l ∧ tl (l ++ m) a = m
  | [], a, m, h => by
    have h : a = 0 := h
    subst h
    exact ⟨hd0 m, tl0 m⟩
  | x :: l, 0, m, h => h.elim
  | x :: l, a + 1, m, h => by
    obtain ⟨e1, e2⟩ := hd_app m h.2
    refine ⟨?_, e2⟩
    show x :: hd (l ++ m) (a + ar x) = x :: l
    rw [e1]
/-- the first trees of a row are those of its part -/
theorem hd_app_le : ∀ {l : List nd} {a b : Nat} (m : List nd), wf l (a + b) → hd (l ++ m) a = hd l a ∧ tl (l ++ m) a = tl l a ++ m
  | [], a, b, m, h => by
    have h : a + b = 0 := h
    have h : a = 0 := by omega
    subst h
    exact ⟨hd0 m, tl0 m⟩
  | x :: l, 0, b, m, h => ⟨rfl, rfl⟩
  | x :: l, a + 1, b, m, h => by
    rw [show a + 1 + b = (a + b) + 1 by omega] at h
    have h2 := h.2
    rw [show a + b + ar x = (a + ar x) + b by omega] at h2
    obtain ⟨e1, e2⟩ := hd_app_le m h2
    refine ⟨?_, e2⟩
    show x :: hd (l ++ m) (a + ar x) = x :: hd l (a + ar x)
    rw [e1]
theorem wf_hd_self {l : List nd} {a : Nat} (h : wf l a) : hd l a = l ∧ tl l a = [] := by
  have := hd_app [] h
  rw [List.append_nil] at this
  exact this
theorem wf_len : ∀ {l : List nd} {a : Nat}, wf l a → a ≤ l.length
  | [], a, h => by have h : a = 0 := h; omega
  | x :: l, 0, h => Nat.zero_le _
  | x :: l, a + 1, h => by
    have := wf_len h.2
    rw [List.length_cons]
    omega
theorem hd_add : ∀ {l : List nd} {a b : Nat}, hd l (a + b) = hd l a ++ hd (tl l a) b ∧ tl l (a + b) = tl (tl l a) b
  | [], a, b => ⟨rfl, rfl⟩
  | x :: l, 0, b => by rw [Nat.zero_add]; exact ⟨rfl, rfl⟩
  | x :: l, a + 1, b => by
    rw [show a + 1 + b = (a + b) + 1 by omega]
    have e := hd_add (l := l) (a := a + ar x) (b := b)
    rw [show a + ar x + b = a + b + ar x by omega] at e
    refine ⟨?_, e.2⟩
    show x :: hd l (a + b + ar x) = x :: (hd l (a + ar x) ++ hd (tl l (a + ar x)) b)
    rw [e.1]
/-- how many nodes the tree has that begins a row -/
def spl (l : List nd) : Nat := (hd l 1).length
/-- from place p on there are these nodes -/
def nds (S : mS) : Int → List nd → Prop
  | _, [] => True
  | p, x :: l => (S 4 p = nk x ∧ S 5 p = nw x ∧ S 6 p = nf x ∧ S 7 p = nc x) ∧ nds S (p + 1) l
/-- from place p on their spans are told -/
def spn (S : mS) : Int → List nd → Prop
  | _, [] => True
  | p, x :: l => S 8 p = spl (x :: l) ∧ spn S (p + 1) l
theorem nds_app {S : mS} : ∀ {l m : List nd} {p : Int}, nds S p (l ++ m) ↔ nds S p l ∧ nds S (p + l.length) m
  | [], m, p => by
    rw [show p + (([] : List nd).length : Int) = p by rw [List.length_nil]; omega]
    exact ⟨fun h => ⟨trivial, h⟩, fun h => h.2⟩
  | x :: l, m, p => by
    have ih := nds_app (S := S) (l := l) (m := m) (p := p + 1)
    rw [show p + 1 + (l.length : Int) = p + ((x :: l).length : Int) by rw [List.length_cons]; omega] at ih
    exact ⟨fun h => ⟨⟨h.1, (ih.mp h.2).1⟩, (ih.mp h.2).2⟩, fun h => ⟨h.1.1, ih.mpr ⟨h.1.2, h.2⟩⟩⟩
theorem spl_app {l : List nd} {a : Nat} (m : List nd) (h : wf l a) (ha : 0 < a) : spl (l ++ m) = spl l := by
  unfold spl
  rw [show a = 1 + (a - 1) by omega] at h
  rw [(hd_app_le m h).1]
theorem spn_app {S : mS} : ∀ {l m : List nd} {a : Nat} {p : Int}, wf l a → (spn S p (l ++ m) ↔ spn S p l ∧ spn S (p + l.length) m)
  | [], m, a, p, _ => by
    rw [show p + (([] : List nd).length : Int) = p by rw [List.length_nil]; omega]
    exact ⟨fun h => ⟨trivial, h⟩, fun h => h.2⟩
  | x :: l, m, 0, p, w => w.elim
  | x :: l, m, a + 1, p, w => by
    have ih := spn_app (S := S) (l := l) (m := m) (p := p + 1) w.2
    rw [show p + 1 + (l.length : Int) = p + ((x :: l).length : Int) by rw [List.length_cons]; omega] at ih
    have e := spl_app m w (Nat.succ_pos a)
    constructor
    · rintro ⟨h1, h2⟩
      have h1 : S 8 p = ((spl ((x :: l) ++ m) : Nat) : Int) := h1
      rw [e] at h1
      exact ⟨⟨h1, (ih.mp h2).1⟩, (ih.mp h2).2⟩
    · rintro ⟨⟨h1, h2⟩, h3⟩
      refine ⟨?_, ih.mpr ⟨h2, h3⟩⟩
      show S 8 p = ((spl ((x :: l) ++ m) : Nat) : Int)
      rw [e]
      exact h1
theorem nds.keep {S S' : mS} : ∀ {l : List nd} {p : Int}, nds S p l → (∀ k, 4 ≤ k → k ≤ 7 → ∀ i, p ≤ i → i < p + l.length → S' k i = S k i) → nds S' p l
  | [], p, _, _ => trivial
  | x :: l, p, h, e => by
    rw [List.length_cons] at e
    refine ⟨?_, h.2.keep (fun k a b i c d => e k a b i (by omega) (by omega))⟩
    rw [e 4 (by decide) (by decide) p (by omega) (by omega), e 5 (by decide) (by decide) p (by omega) (by omega), e 6 (by decide) (by decide) p (by omega) (by omega), e 7 (by decide) (by decide) p (by omega) (by omega)]
    exact h.1
theorem spn.keep {S S' : mS} : ∀ {l : List nd} {p : Int}, spn S p l → (∀ i, p ≤ i → i < p + l.length → S' 8 i = S 8 i) → spn S' p l
  | [], p, _, _ => trivial
  | x :: l, p, h, e => by
    rw [List.length_cons] at e
    refine ⟨?_, h.2.keep (fun i c d => e i (by omega) (by omega))⟩
    rw [e p (by omega) (by omega)]
    exact h.1
/-- at place p there is a tree -/
def tr (S : mS) (p : Int) (l : List nd) : Prop := wf l 1 ∧ nds S p l ∧ spn S p l

/-! PURE 3: binary trees with parents, by intervals of places -/
/-- N: the nodes; n: how many; ps: a node's place in order; [lo, hi): the places of its subtree -/
def Shp (N : Nat → Prop) (n : Nat) (root : Option Nat) (lf rt pa : Nat → Option Nat) (ps lo hi : Nat → Nat) : Prop :=
  (∀ a, N a → lo a ≤ ps a ∧ ps a < hi a ∧ hi a ≤ n) ∧
  (∀ a b, N a → N b → ps a = ps b → a = b) ∧
  (∀ i, i < n → ∃ a, N a ∧ ps a = i) ∧
  (∀ r, root = some r → N r ∧ lo r = 0 ∧ hi r = n ∧ pa r = none) ∧
  (root = none → n = 0) ∧
  (∀ a, N a → lf a = none → lo a = ps a) ∧
  (∀ a b, N a → lf a = some b → N b ∧ pa b = some a ∧ lo b = lo a ∧ hi b = ps a) ∧
  (∀ a, N a → rt a = none → hi a = ps a + 1) ∧
  (∀ a b, N a → rt a = some b → N b ∧ pa b = some a ∧ lo b = ps a + 1 ∧ hi b = hi a) ∧
  (∀ a b, N a → pa a = some b → N b ∧ (lf b = some a ∨ rt b = some a)) ∧
  (∀ a, N a → pa a = none → root = some a)
section S
variable {N : Nat → Prop} {n : Nat} {root : Option Nat} {lf rt pa : Nat → Option Nat} {ps lo hi : Nat → Nat}
/-- a rotation to the left at p, whose right child is r -/
def rlL (lf pa : Nat → Option Nat) (p r : Nat) : Nat → Option Nat := fun a => if a = r then some p else if pa p = some a ∧ lf a = some p then some r else lf a
def rlR (lf rt pa : Nat → Option Nat) (p r : Nat) : Nat → Option Nat := fun a => if a = p then lf r else if pa p = some a ∧ ¬ lf a = some p then some r else rt a
def rlP (lf pa : Nat → Option Nat) (p r : Nat) : Nat → Option Nat := fun a => if a = p then some r else if a = r then pa p else if lf r = some a then some p else pa a
def rlT (root : Option Nat) (pa : Nat → Option Nat) (p r : Nat) : Option Nat := if pa p = none then some r else root
theorem Shp.ne (h : Shp N n root lf rt pa ps lo hi) {p r : Nat} (hp : N p) (hr : rt p = some r) : N r ∧ r ≠ p ∧ pa r = some p ∧ lo r = ps p + 1 ∧ hi r = hi p ∧ (∀ q, pa p = some q → N q ∧ q ≠ p ∧ q ≠ r) ∧ (∀ b, lf r = some b → N b ∧ b ≠ p ∧ b ≠ r ∧ pa b = some r ∧ lo b = ps p + 1 ∧ hi b = ps r) := by
  obtain ⟨h1, h2, h3, h4, h5, h6, h7, h8, h9, h10, h11⟩ := h
  obtain ⟨a1, a2, a3, a4⟩ := h9 p r hp hr
  have b1 := h1 r a1
  have b2 := h1 p hp
  refine ⟨a1, ?_, a2, a3, a4, fun q hq => ?_, fun b hb => ?_⟩
  · intro e; subst e; omega
  · obtain ⟨c1, c2⟩ := h10 p q hp hq
    refine ⟨c1, ?_, ?_⟩
    · intro e; subst e
      rcases c2 with c2 | c2
      · have := h7 _ _ c1 c2; omega
      · have := h9 _ _ c1 c2; omega
    · intro e; subst e
      rcases c2 with c2 | c2
      · have := h7 _ _ c1 c2; omega
      · have := h9 _ _ c1 c2; omega
  · obtain ⟨c1, c2, c3, c4⟩ := h7 r b a1 hb
    have c5 := h1 b c1
    refine ⟨c1, ?_, ?_, c2, by omega, c4⟩
    · intro e; subst e; omega
    · intro e; subst e; omega
theorem Shp.rotL (h : Shp N n root lf rt pa ps lo hi) {p r : Nat} (hp : N p) (hr : rt p = some r) : Shp N n (rlT root pa p r) (rlL lf pa p r) (rlR lf rt pa p r) (rlP lf pa p r) ps (va_up lo r (lo p)) (va_up hi p (ps r)) := by
  obtain ⟨a1, a2, a3, a4, a5, a6, a7⟩ := h.ne hp hr
  obtain ⟨h1, h2, h3, h4, h5, h6, h7, h8, h9, h10, h11⟩ := h
  have b1 := h1 r a1
  have b2 := h1 p hp
  refine ⟨?_, h2, h3, ?_, ?_, ?_, ?_, ?_, ?_, ?_, ?_⟩
  · grind (splits := 24) [va_up]
  · grind (splits := 24) [va_up, rlT, rlP]
  · grind (splits := 24) [rlT]
  · grind (splits := 24) [va_up, rlL]
  · grind (splits := 24) [va_up, rlL, rlP]
  · grind (splits := 24) [va_up, rlR]
  · grind (splits := 24) [va_up, rlR, rlP]
  · grind (splits := 24) [rlL, rlR, rlP]
  · grind (splits := 24) [rlT, rlP]
/-- a rotation to the right at p, whose left child is l -/
def rrR (rt pa : Nat → Option Nat) (p l : Nat) : Nat → Option Nat := fun a => if a = l then some p else if pa p = some a ∧ rt a = some p then some l else rt a
def rrL (lf rt pa : Nat → Option Nat) (p l : Nat) : Nat → Option Nat := fun a => if a = p then rt l else if pa p = some a ∧ ¬ rt a = some p then some l else lf a
def rrP (rt pa : Nat → Option Nat) (p l : Nat) : Nat → Option Nat := fun a => if a = p then some l else if a = l then pa p else if rt l = some a then some p else pa a
theorem Shp.ne' (h : Shp N n root lf rt pa ps lo hi) {p l : Nat} (hp : N p) (hr : lf p = some l) : N l ∧ l ≠ p ∧ pa l = some p ∧ hi l = ps p ∧ lo l = lo p ∧ (∀ q, pa p = some q → N q ∧ q ≠ p ∧ q ≠ l) ∧ (∀ b, rt l = some b → N b ∧ b ≠ p ∧ b ≠ l ∧ pa b = some l ∧ lo b = ps l + 1 ∧ hi b = ps p) := by
  obtain ⟨h1, h2, h3, h4, h5, h6, h7, h8, h9, h10, h11⟩ := h
  obtain ⟨a1, a2, a3, a4⟩ := h7 p l hp hr
  have b1 := h1 l a1
  have b2 := h1 p hp
  refine ⟨a1, ?_, a2, a4, a3, fun q hq => ?_, fun b hb => ?_⟩
  · intro e; subst e; omega
  · obtain ⟨c1, c2⟩ := h10 p q hp hq
    refine ⟨c1, ?_, ?_⟩
    · intro e; subst e
      rcases c2 with c2 | c2
      · have := h7 _ _ c1 c2; omega
      · have := h9 _ _ c1 c2; omega
    · intro e; subst e
      rcases c2 with c2 | c2
      · have := h7 _ _ c1 c2; omega
      · have := h9 _ _ c1 c2; omega
  · obtain ⟨c1, c2, c3, c4⟩ := h9 l b a1 hb
    have c5 := h1 b c1
    refine ⟨c1, ?_, ?_, c2, c3, by omega⟩
    · intro e; subst e; omega
    · intro e; subst e; omega
theorem Shp.rotR (h : Shp N n root lf rt pa ps lo hi) {p l : Nat} (hp : N p) (hr : lf p = some l) : Shp N n (rlT root pa p l) (rrL lf rt pa p l) (rrR rt pa p l) (rrP rt pa p l) ps (va_up lo p (ps l + 1)) (va_up hi l (hi p)) := by
  obtain ⟨a1, a2, a3, a4, a5, a6, a7⟩ := h.ne' hp hr
  obtain ⟨h1, h2, h3, h4, h5, h6, h7, h8, h9, h10, h11⟩ := h
  have b1 := h1 l a1
  have b2 := h1 p hp
  refine ⟨?_, h2, h3, ?_, ?_, ?_, ?_, ?_, ?_, ?_, ?_⟩
  · grind (splits := 24) [va_up]
  · grind (splits := 24) [va_up, rlT, rrP]
  · grind (splits := 24) [rlT]
  · grind (splits := 24) [va_up, rrL]
  · grind (splits := 24) [va_up, rrL, rrP]
  · grind (splits := 24) [va_up, rrR]
  · grind (splits := 24) [va_up, rrR, rrP]
  · grind (splits := 24) [rrL, rrR, rrP]
  · grind (splits := 24) [rlT, rrP]
/-- a new leaf e at place i -/
def inN (N : Nat → Prop) (e : Nat) : Nat → Prop := fun a => N a ∨ a = e
def inP (ps : Nat → Nat) (e i : Nat) : Nat → Nat := fun a => if a = e then i else if i ≤ ps a then ps a + 1 else ps a
def inL (lo : Nat → Nat) (e i : Nat) : Nat → Nat := fun a => if a = e then i else if i < lo a then lo a + 1 else lo a
def inH (hi : Nat → Nat) (e i : Nat) : Nat → Nat := fun a => if a = e then i + 1 else if i ≤ hi a then hi a + 1 else hi a
theorem Shp.insL (h : Shp N n root lf rt pa ps lo hi) {p e : Nat} (hp : N p) (hl : lf p = none) (he : ¬ N e) (hq : ∀ q, N q → ps q + 1 = ps p → rt q ≠ none) : Shp (inN N e) (n + 1) root (va_up (va_up lf e none) p (some e)) (va_up rt e none) (va_up pa e (some p)) (inP ps e (ps p)) (inL lo e (ps p)) (inH hi e (ps p)) := by
  obtain ⟨h1, h2, h3, h4, h5, h6, h7, h8, h9, h10, h11⟩ := h
  have b2 := h1 p hp
  have b3 := h6 p hp hl
  have b4 : p ≠ e := fun z => he (z ▸ hp)
  refine ⟨?_, ?_, ?_, ?_, ?_, ?_, ?_, ?_, ?_, ?_, ?_⟩
  · grind (splits := 24) [inN, inP, inL, inH]
  · grind (splits := 24) [inN, inP]
  · intro i hi'
    rcases Nat.lt_trichotomy i (ps p) with z | z | z
    · obtain ⟨a, c1, c2⟩ := h3 i (by omega)
      exact ⟨a, Or.inl c1, by grind (splits := 24) [inP]⟩
    · exact ⟨e, Or.inr rfl, by grind (splits := 24) [inP]⟩
    · obtain ⟨a, c1, c2⟩ := h3 (i - 1) (by omega)
      exact ⟨a, Or.inl c1, by grind (splits := 24) [inP]⟩
  · grind (splits := 24) [inN, inL, inH, va_up]
  · intro z
    have := h5 z
    omega
  · grind (splits := 24) [inN, inP, inL, va_up]
  · grind (splits := 24) [inN, inP, inL, inH, va_up]
  · grind (splits := 24) [inN, inP, inH, va_up]
  · grind (splits := 24) [inN, inP, inL, inH, va_up]
  · grind (splits := 24) [inN, va_up]
  · grind (splits := 24) [inN, va_up]
theorem Shp.insR (h : Shp N n root lf rt pa ps lo hi) {p e : Nat} (hp : N p) (hl : rt p = none) (he : ¬ N e) (hq : ∀ q, N q → ps q = ps p + 1 → lf q ≠ none) : Shp (inN N e) (n + 1) root (va_up lf e none) (va_up (va_up rt e none) p (some e)) (va_up pa e (some p)) (inP ps e (ps p + 1)) (inL lo e (ps p + 1)) (inH hi e (ps p + 1)) := by
  obtain ⟨h1, h2, h3, h4, h5, h6, h7, h8, h9, h10, h11⟩ := h
  have b2 := h1 p hp
  have b3 := h8 p hp hl
  have b4 : p ≠ e := fun z => he (z ▸ hp)
  refine ⟨?_, ?_, ?_, ?_, ?_, ?_, ?_, ?_, ?_, ?_, ?_⟩
  · grind (splits := 24) [inN, inP, inL, inH]
  · grind (splits := 24) [inN, inP]
  · intro i hi'
    rcases Nat.lt_trichotomy i (ps p + 1) with z | z | z
    · obtain ⟨a, c1, c2⟩ := h3 i (by omega)
      exact ⟨a, Or.inl c1, by grind (splits := 24) [inP]⟩
    · exact ⟨e, Or.inr rfl, by grind (splits := 24) [inP]⟩
    · obtain ⟨a, c1, c2⟩ := h3 (i - 1) (by omega)
      exact ⟨a, Or.inl c1, by grind (splits := 24) [inP]⟩
  · grind (splits := 24) [inN, inL, inH, va_up]
  · intro z
    have := h5 z
    omega
  · grind (splits := 24) [inN, inP, inL, va_up]
  · grind (splits := 24) [inN, inP, inL, inH, va_up]
  · grind (splits := 24) [inN, inP, inH, va_up]
  · grind (splits := 24) [inN, inP, inL, inH, va_up]
  · grind (splits := 24) [inN, va_up]
  · grind (splits := 24) [inN, va_up]
end S

/-! PURE F0: the model's fields; in, bring, type, clear, note, undo, keep, back -/
theorem nI_mul (a b : Nat) : nI a * nI b = nI (a * b) := (Int32.ofNat_mul a b).symm
/-- a desk in the model: 98 numbers -/
def MDk (x : Nat → Int32) (k : Dk) : Prop := x 0 = nI k.1.1.length ∧ (∀ i, i < k.1.1.length → x (1 + 3 * i) = nI (k.1.1.getD i (0, 0, 0)).1 ∧ x (2 + 3 * i) = nI (k.1.1.getD i (0, 0, 0)).2.1 ∧ x (3 + 3 * i) = nI (k.1.1.getD i (0, 0, 0)).2.2) ∧ (∀ i, i < 5 → x (10 + i) = nI (k.1.2.1.getD i 0)) ∧ x 15 = nI k.1.2.2.1 ∧ x 16 = nI k.1.2.2.2 ∧ x 17 = nI k.2.length ∧ ∀ i, i < k.2.length → x (18 + i) = nI (k.2.getD i (0, 0)).1 ∧ x (58 + i) = nI (k.2.getD i (0, 0)).2
theorem MDk.ext {x y : Nat → Int32} {k : Dk} (h : MDk x k) (hok : DkOk k) (e : ∀ j, j < 98 → y j = x j) : MDk y k := by
  obtain ⟨h1, h2, h3, h4, h5, h6, h7⟩ := h
  have l1 : k.1.1.length ≤ 3 := hok.1.1.2.1
  have l2 : k.2.length ≤ 40 := hok.2.2.1
  refine ⟨by rw [e 0 (by omega)]; exact h1, fun i hi => ?_, fun i hi => by rw [e _ (by omega)]; exact h3 i hi, by rw [e 15 (by omega)]; exact h4, by rw [e 16 (by omega)]; exact h5, by rw [e 17 (by omega)]; exact h6, fun i hi => ?_⟩
  · rw [e _ (by omega), e _ (by omega), e _ (by omega)]; exact h2 i hi
  · rw [e _ (by omega), e _ (by omega)]; exact h7 i hi
theorem min_at {N : Nat} {a : Int32} {n : Nat} (hn : n < 2 ^ 31) : mF_in N a 0 (nI n - 1) = some (if (iR a n).isSome then 1 else 0) := by
  unfold mF_in mB_in_14 mB_in_15
  cases e : iR a n with
  | none =>
    have h := iR_none e
    by_cases c : a < 0
    · rw [if_pos c, if_pos (by decide)]; rfl
    · rw [if_neg c]
      rcases h with w | w
      · exact absurd w c
      · rw [if_pos ((le_pred hn c).mpr w), if_pos (by decide)]; rfl
  | some v =>
    unfold iR at e
    by_cases c : ¬ a < 0 ∧ a < nI n
    · rw [if_neg c.1, if_neg (fun z => (le_pred hn c.1).mp z c.2), if_pos (by decide)]; rfl
    · rw [if_neg c] at e; cases e
theorem bring_at {N n0 n1 a b : Nat} {f g : Nat → Int32} (hN : 99 ≤ N) (h0 : a + 98 ≤ n0) (h1 : b + 98 ≤ n1) (hn0 : n0 < 2 ^ 31) (hn1 : n1 < 2 ^ 31) : ∃ g', mF_bring N n0 n1 f (nI a) g (nI b) = some g' ∧ (∀ i, i < 98 → g' (b + i) = f (a + i)) ∧ ∀ j, (j < b ∨ b + 98 ≤ j) → g' j = g j := by
  have loop : ∀ (m k n : Nat) (g : Nat → Int32), k + m = 98 → m < n → ∃ g', mL_bring_3 n0 n1 f (nI a) (nI b) n (nI k) g = some g' ∧ (∀ i, k ≤ i → i < 98 → g' (b + i) = f (a + i)) ∧ ∀ j, (j < b + k ∨ b + 98 ≤ j) → g' j = g j := by
    intro m
    induction m with
    | zero =>
      intro k n g hk hn
      obtain ⟨n, rfl⟩ : ∃ z, n = z + 1 := ⟨n - 1, by omega⟩
      refine ⟨g, ?_, fun i h1 h2 => by omega, fun j _ => rfl⟩
      unfold mL_bring_3
      rw [if_pos (show (98 : Int32) ≤ nI k from nI_le (a := 98) (by omega) (by omega))]
    | succ m ih =>
      intro k n g hk hn
      obtain ⟨n, rfl⟩ : ∃ z, n = z + 1 := ⟨n - 1, by omega⟩
      obtain ⟨g', e1, e2, e3⟩ := ih (k + 1) n (upd g (b + k) (f (a + k))) (by omega) (by omega)
      refine ⟨g', ?_, fun i h1 h2 => ?_, fun j hj => ?_⟩
      · unfold mL_bring_3
        rw [if_neg (show ¬ (98 : Int32) ≤ nI k from nI_ge (b := 98) (by omega) (by omega)), nI_add, nI_add, gd_nI (by omega) (by omega), gd_nI (by omega) (by omega), ← nI_succ]
        exact e1
      · by_cases c : i = k
        · rw [c, e3 _ (Or.inl (by omega))]
          exact if_pos rfl
        · exact e2 i (by omega) h2
      · rw [e3 j (by omega)]
        exact if_neg (by omega)
  obtain ⟨g', e1, e2, e3⟩ := loop 98 0 N g (by omega) (by omega)
  exact ⟨g', e1, fun i hi => e2 i (Nat.zero_le _) hi, fun j hj => e3 j (by omega)⟩
/-- what is told in the model: text and letters -/
def MTx (x : Nat → Int32) (n : Int32) (l : List Nat) : Prop := n = nI l.length ∧ (∀ i, i < l.length → x i = nI (l.getD i 0)) ∧ l.length ≤ 120
/-- what is done in the model -/
def MPa (x : Nat → Int32) (n : Int32) (l : List Dk) : Prop := n = nI l.length ∧ l.length ≤ 6 ∧ ∀ i (h : i < l.length), MDk (fun j => x (98 * i + j)) l[i] ∧ DkOk l[i]
def MIm (x kp : Nat → Int32) (v : Nat) (k : Option Dk) : Prop := match k with
  | none => kp v = 0
  | some d => ¬ kp v = 0 ∧ MDk (fun j => x (98 * v + j)) d ∧ DkOk d
theorem m_type {N : Nat} {a n : Int32} {x : Nat → Int32} {S : Sp} (h : MTx x n S.2.2.2) : ∃ x' n', mF_type N a x n = some ((spType S a).1, x', n') ∧ MTx x' n' (spType S a).2.2.2.2 ∧ (spType S a).2.1 = S.1 ∧ (spType S a).2.2.1 = S.2.1 ∧ (spType S a).2.2.2.1 = S.2.2.1 := by
  obtain ⟨rfl, h2, h3⟩ := id h
  unfold mF_type spType
  rw [show (255 : Int32) = nI 256 - 1 from by decide, min_at (by decide)]
  cases e : iR a 256 with
  | none => exact ⟨x, _, rfl, h, rfl, rfl, rfl⟩
  | some c =>
    obtain ⟨rfl, hc⟩ := iR_some (by decide) e
    simp only [Option.isSome_some, if_true, Option.bind_some]
    rw [if_neg (by decide)]
    by_cases c2 : S.2.2.2.length = 120
    · rw [if_pos c2, if_pos (by rw [c2]; rfl)]
      exact ⟨x, _, rfl, h, rfl, rfl, rfl⟩
    · rw [if_neg c2, if_neg (show ¬ nI S.2.2.2.length = (120 : Int32) from fun z => c2 ((nI_eq (b := 120) (by omega) (by omega)).mp z)), gd_nI (by omega) (by omega)]
      refine ⟨_, _, by rw [nI_succ]; rfl, ⟨by rw [List.length_append, List.length_singleton, nI_succ], fun i hi => ?_, by simp; omega⟩, rfl, rfl, rfl⟩
      by_cases ci : i = S.2.2.2.length
      · rw [ci]
        unfold upd
        rw [if_pos rfl]
        simp
      · have hi' : i < S.2.2.2.length := by (simp at hi; omega)
        unfold upd
        rw [if_neg ci, h2 i hi']
        simp only [List.getD_eq_getElem?_getD, List.getElem?_append_left hi']
theorem m_clear {N : Nat} {n : Int32} {x : Nat → Int32} {S : Sp} (h : MTx x n S.2.2.2) : mF_clear N n = some ((spClear S).1, 0) ∧ MTx x 0 (spClear S).2.2.2.2 := by
  obtain ⟨rfl, h2, h3⟩ := id h
  exact ⟨rfl, rfl, fun i hi => absurd hi (by simp [spClear]), by simp [spClear]⟩
theorem m_note {N : Nat} {x y : Nat → Int32} {n : Int32} {S : Sp} (hN : 600 ≤ N) (hx : MDk x S.1) (hok : DkOk S.1) (h : MPa y n S.2.1) : ∃ y' n', mF_note N x y n = some (y', n') ∧ MPa y' n' (noteL S.2.1 S.1) := by
  obtain ⟨rfl, h2, h3⟩ := h
  have last : ∀ (y : Nat → Int32) (l : List Dk), l.length ≤ 5 → (∀ i (h : i < l.length), MDk (fun j => y (98 * i + j)) l[i] ∧ DkOk l[i]) → ∃ y' n', mB_note_49 N x y (nI l.length) = some (y', n') ∧ MPa y' n' (l ++ [S.1]) := by
    intro y l hl hy
    unfold mB_note_49
    rw [show (98 : Int32) = nI 98 from rfl, nI_mul, show (0 : Int32) = nI 0 from rfl]
    obtain ⟨g', e1, e2, e3⟩ := bring_at (N := N) (n0 := 98) (n1 := 588) (a := 0) (b := 98 * l.length) (f := x) (g := y) (by omega) (by omega) (by omega) (by omega) (by omega)
    rw [e1]
    refine ⟨g', _, rfl, by rw [List.length_append, List.length_singleton, nI_succ], by simp; omega, fun i hi => ?_⟩
    by_cases ci : i = l.length
    · subst ci
      rw [List.getElem_concat_length (by rfl)]
      exact ⟨hx.ext hok (fun j hj => by show g' (98 * l.length + j) = x j; rw [e2 j hj, Nat.zero_add]), hok⟩
    · have hi' : i < l.length := by (simp at hi; omega)
      rw [List.getElem_append_left hi']
      exact ⟨(hy i hi').1.ext (hy i hi').2 (fun j hj => e3 _ (by omega)), (hy i hi').2⟩
  unfold mF_note noteL
  by_cases c : S.2.1.length = 6
  · rw [if_pos c, if_pos (show nI S.2.1.length = (6 : Int32) from by rw [c]; rfl)]
    have loop : ∀ (m k f : Nat) (y : Nat → Int32), k + m = 490 → m < f → ∃ y', mL_note_11 N x f (nI k) y (nI S.2.1.length) = mB_note_49 N x y' (nI S.2.1.length - 1) ∧ (∀ j, k ≤ j → j < 490 → y' j = y (j + 98)) ∧ ∀ j, j < k → y' j = y j := by
      intro m
      induction m with
      | zero =>
        intro k f y hk hf
        obtain ⟨f, rfl⟩ : ∃ z, f = z + 1 := ⟨f - 1, by omega⟩
        refine ⟨y, ?_, fun j h1 h2 => by omega, fun j _ => rfl⟩
        unfold mL_note_11
        rw [if_pos (show (490 : Int32) ≤ nI k from nI_le (a := 490) (by omega) (by omega))]
      | succ m ih =>
        intro k f y hk hf
        obtain ⟨f, rfl⟩ : ∃ z, f = z + 1 := ⟨f - 1, by omega⟩
        obtain ⟨y', e1, e2, e3⟩ := ih (k + 1) f (upd y k (y (k + 98))) (by omega) (by omega)
        refine ⟨y', ?_, fun j h1 h2 => ?_, fun j hj => ?_⟩
        · unfold mL_note_11
          rw [if_neg (show ¬ (490 : Int32) ≤ nI k from nI_ge (b := 490) (by omega) (by omega)), show (98 : Int32) = nI 98 from rfl, nI_add, gd_nI (by omega) (by omega), gd_nI (by omega) (by omega), ← nI_succ]
          exact e1
        · by_cases cj : j = k
          · rw [cj, e3 k (by omega)]; exact if_pos rfl
          · rw [e2 j (by omega) h2]; exact if_neg (by omega)
        · rw [e3 j (by omega)]; exact if_neg (by omega)
    obtain ⟨y', e1, e2, -⟩ := loop 490 0 N y (by omega) (by omega)
    rw [show (0 : Int32) = nI 0 from rfl, e1, show nI S.2.1.length - 1 = nI (S.2.1.drop 1).length by rw [List.length_drop, c]; decide]
    exact last y' (S.2.1.drop 1) (by rw [List.length_drop]; omega) (fun i hi => by
      rw [List.length_drop] at hi
      rw [List.getElem_drop]
      have := h3 (1 + i) (by omega)
      exact ⟨this.1.ext this.2 (fun j hj => by show y' (98 * i + j) = y (98 * (1 + i) + j); rw [e2 _ (by omega) (by omega)]; congr 1; omega), this.2⟩)
  · rw [if_neg c, if_neg (show ¬ nI S.2.1.length = (6 : Int32) from fun z => c ((nI_eq (b := 6) (by omega) (by omega)).mp z))]
    exact last y S.2.1 (by omega) h3

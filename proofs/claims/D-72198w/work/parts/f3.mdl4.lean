/-! PURE F3: the model's comes -/
theorem up_109 {N p : Nat} {a b n : Int32} {y : Nat → Int32} : ∀ (m k f : Nat) (z : Nat → Int32), k = p + m → k ≤ 39 → m < f → ∃ z', mL_comes_109 N f a b (nI p) (nI k) z y n = some (nI p, z', y, n) ∧ (∀ j, j < 17 → z' j = z j) ∧ z' 17 = z 17 + 1 ∧ (∀ j, j < p → z' (18 + j) = z (18 + j) ∧ z' (58 + j) = z (58 + j)) ∧ (z' (18 + p) = a ∧ z' (58 + p) = b) ∧ (∀ j, p ≤ j → j < k → z' (18 + (j + 1)) = z (18 + j) ∧ z' (58 + (j + 1)) = z (58 + j)) ∧ ∀ j, k < j → j ≤ 39 → z' (18 + j) = z (18 + j) ∧ z' (58 + j) = z (58 + j) := by
  intro m
  induction m with
  | zero =>
    intro k f z hk hk9 hf
    obtain ⟨f, rfl⟩ : ∃ q, f = q + 1 := ⟨f - 1, by omega⟩
    have ek : k = p := by omega
    subst ek
    have low : ∀ (v w u : Int32) j, j ≠ 17 → j ≠ 18 + k → j ≠ 58 + k → upd (upd (upd z (18 + k) v) (58 + k) w) 17 u j = z j := fun v w u j j1 j2 j3 => (if_neg j1).trans ((if_neg j3).trans (if_neg j2))
    refine ⟨upd (upd (upd z (18 + k) a) (58 + k) b) 17 (upd (upd z (18 + k) a) (58 + k) b 17 + 1), ?_, fun j hj => low _ _ _ j (by omega) (by omega) (by omega), ?_, fun j hj => ⟨low _ _ _ _ (by omega) (by omega) (by omega), low _ _ _ _ (by omega) (by omega) (by omega)⟩, ⟨(if_neg (by omega)).trans ((if_neg (by omega)).trans (if_pos rfl)), (if_neg (by omega)).trans (if_pos rfl)⟩, fun j j1 j2 => by omega, fun j j1 j2 => ⟨low _ _ _ _ (by omega) (by omega) (by omega), low _ _ _ _ (by omega) (by omega) (by omega)⟩⟩
    · unfold mL_comes_109
      rw [if_pos (nI_le (by omega) (by omega)), show (18 : Int32) = nI 18 from rfl, show (58 : Int32) = nI 58 from rfl, nI_add, nI_add, gd_nI (by omega) (by omega), gd_nI (by omega) (by omega)]
      rfl
    · refine (if_pos rfl).trans (congrArg (· + 1) ?_)
      exact (if_neg (by omega)).trans (if_neg (by omega))
  | succ m ih =>
    intro k f z hk hk9 hf
    obtain ⟨f, rfl⟩ : ∃ q, f = q + 1 := ⟨f - 1, by omega⟩
    obtain ⟨k, rfl⟩ : ∃ q, k = q + 1 := ⟨k - 1, by omega⟩
    obtain ⟨z', e1, e2, e3, e4, e5, e6, e7⟩ := ih k f (upd (upd z (18 + (k + 1)) (z (18 + k))) (58 + (k + 1)) (upd z (18 + (k + 1)) (z (18 + k)) (58 + k))) (by omega) (by omega) (by omega)
    have low : ∀ j, j ≠ 18 + (k + 1) → j ≠ 58 + (k + 1) → upd (upd z (18 + (k + 1)) (z (18 + k))) (58 + (k + 1)) (upd z (18 + (k + 1)) (z (18 + k)) (58 + k)) j = z j := fun j j1 j2 => (if_neg j2).trans (if_neg j1)
    refine ⟨z', ?_, fun j hj => (e2 j hj).trans (low j (by omega) (by omega)), by rw [e3, low 17 (by omega) (by omega)], fun j hj => ?_, e5, fun j j1 j2 => ?_, fun j j1 j2 => ?_⟩
    · unfold mL_comes_109
      have s1 : ∀ q : Nat, nI q + nI (k + 1) - 1 = nI (q + k) := fun q => by
        rw [nI_add, show q + (k + 1) = q + k + 1 by omega, show (1 : Int32) = nI 1 from rfl, nI_sub (by omega)]; rfl
      rw [if_neg (nI_ge (by omega) (by omega)), show (18 : Int32) = nI 18 from rfl, show (58 : Int32) = nI 58 from rfl, s1, s1, nI_add, nI_add, gd_nI (by omega) (by omega), gd_nI (by omega) (by omega), gd_nI (by omega) (by omega), gd_nI (by omega) (by omega)]
      have s2 : nI (k + 1) + (-1) = nI k := by
        rw [nI_succ, Int32.add_assoc]
        show nI k + 0 = nI k
        exact Int32.add_zero _
      rw [s2]
      exact e1
    · obtain ⟨w1, w2⟩ := e4 j hj
      exact ⟨w1.trans (low _ (by omega) (by omega)), w2.trans (low _ (by omega) (by omega))⟩
    · by_cases cj : j = k
      · subst cj
        obtain ⟨w1, w2⟩ := e7 (j + 1) (by omega) (by omega)
        exact ⟨w1.trans ((if_neg (by omega)).trans (if_pos rfl)), w2.trans ((if_pos rfl).trans (if_neg (by omega)))⟩
      · obtain ⟨w1, w2⟩ := e6 j j1 (by omega)
        exact ⟨w1.trans (low _ (by omega) (by omega)), w2.trans (low _ (by omega) (by omega))⟩
    · obtain ⟨w1, w2⟩ := e7 j (by omega) j2
      exact ⟨w1.trans (low _ (by omega) (by omega)), w2.trans (low _ (by omega) (by omega))⟩

/-! PURE F2: the model's becomes, goes -/
theorem MDk.rows {x y : Nat → Int32} {k : Dk} {l : List (Nat × Nat)} (h : MDk x k) (hl : k.1.1.length ≤ 3) (e : ∀ j, j < 17 → y j = x j) (e17 : y 17 = nI l.length) (er : ∀ i, i < l.length → y (18 + i) = nI (l.getD i (0, 0)).1 ∧ y (58 + i) = nI (l.getD i (0, 0)).2) : MDk y (k.1, l) := by
  obtain ⟨h1, h2, h3, h4, h5, h6, h7⟩ := h
  refine ⟨by rw [e 0 (by omega)]; exact h1, fun i hi => ?_, fun i hi => by rw [e _ (by omega)]; exact h3 i hi, by rw [e 15 (by omega)]; exact h4, by rw [e 16 (by omega)]; exact h5, e17, er⟩
  have hi' : i < k.1.1.length := hi
  rw [e _ (by omega), e _ (by omega), e _ (by omega)]; exact h2 i hi
theorem m_becomes {N : Nat} {x y : Nat → Int32} {n a b : Int32} {S : Sp} (hN : 600 ≤ N) (hx : MDk x S.1) (hok : DkOk S.1) (h : MPa y n S.2.1) : ∃ x' y' n', mF_becomes N a b x y n = some ((spBec S a b).1, x', y', n') ∧ MDk x' (spBec S a b).2.1 ∧ MPa y' n' (spBec S a b).2.2.1 ∧ (spBec S a b).2.2.2 = S.2.2 := by
  have l2 : S.1.2.length ≤ 40 := hok.2.2.1
  unfold mF_becomes mB_becomes_15 spBec
  rw [isRow_m hx hok]
  cases e : iR a S.1.2.length with
  | none => exact ⟨x, y, n, rfl, hx, h, rfl⟩
  | some i =>
    obtain ⟨rfl, hi⟩ := iR_some (by omega) e
    simp only [Option.isSome_some, if_true, Option.bind_some]
    rw [if_neg (by decide), isSign_m]
    cases e2 : iR b 5 with
    | none => exact ⟨x, y, n, rfl, hx, h, rfl⟩
    | some s =>
      obtain ⟨rfl, hs⟩ := iR_some (by decide) e2
      simp only [Option.isSome_some, if_true, Option.bind_some]
      rw [if_neg (by decide), show (58 : Int32) = nI 58 from rfl, nI_add, gd_nI (by omega) (by omega)]
      simp only [Option.bind_some]
      obtain ⟨r1, r2⟩ := hx.2.2.2.2.2.2 i hi
      have hv := hok.2.2.2 _ (getD_mem hi).2
      rw [r2]
      by_cases c : (S.1.2.getD i (0, 0)).2 = s
      · rw [if_pos c, if_pos (by rw [c])]
        exact ⟨x, y, n, rfl, hx, h, rfl⟩
      · rw [if_neg c, if_neg (fun z => c ((nI_eq (by omega) (by omega)).mp z))]
        obtain ⟨y', n', m1, m2⟩ := m_note hN hx hok h
        rw [m1]
        refine ⟨upd x (58 + i) (nI s), y', n', rfl, hx.rows hok.1.1.2.1 (fun j hj => if_neg (by omega)) ?_ (fun j hj => ?_), m2, rfl⟩
        · rw [List.length_set]; exact (if_neg (by omega)).trans hx.2.2.2.2.2.1
        · rw [List.length_set] at hj
          obtain ⟨q1, q2⟩ := hx.2.2.2.2.2.2 j hj
          have u1 : upd x (58 + i) (nI s) (18 + j) = x (18 + j) := if_neg (by omega)
          rw [u1]
          by_cases cj : j = i
          · subst cj
            have g : (S.1.2.set j ((S.1.2.getD j (0, 0)).1, s)).getD j (0, 0) = ((S.1.2.getD j (0, 0)).1, s) := by
              simp [List.getD_eq_getElem?_getD, List.getElem?_set, hj]
            rw [g]
            exact ⟨q1, if_pos rfl⟩
          · have g : (S.1.2.set i ((S.1.2.getD i (0, 0)).1, s)).getD j (0, 0) = S.1.2.getD j (0, 0) := by
              simp only [List.getD_eq_getElem?_getD, List.getElem?_set_ne (Ne.symm cj)]
            rw [g]
            exact ⟨q1, (if_neg (by omega)).trans q2⟩
theorem m_goes {N : Nat} {x y : Nat → Int32} {n a : Int32} {S : Sp} (hN : 600 ≤ N) (hx : MDk x S.1) (hok : DkOk S.1) (h : MPa y n S.2.1) : ∃ x' y' n', mF_goes N a x y n = some ((spGoes S a).1, x', y', n') ∧ MDk x' (spGoes S a).2.1 ∧ MPa y' n' (spGoes S a).2.2.1 ∧ (spGoes S a).2.2.2 = S.2.2 := by
  have l2 : S.1.2.length ≤ 40 := hok.2.2.1
  unfold mF_goes spGoes
  rw [isRow_m hx hok]
  cases e : iR a S.1.2.length with
  | none => exact ⟨x, y, n, rfl, hx, h, rfl⟩
  | some i =>
    obtain ⟨rfl, hi⟩ := iR_some (by omega) e
    simp only [Option.isSome_some, if_true, Option.bind_some]
    obtain ⟨y', n', m1, m2⟩ := m_note hN hx hok h
    rw [if_neg (by decide), m1]
    simp only [Option.bind_some]
    rw [show (18 : Int32) = nI 18 from rfl, nI_add, gd_nI (by omega) (by omega)]
    simp only [Option.bind_some]
    obtain ⟨r1, r2⟩ := hx.2.2.2.2.2.2 i hi
    rw [r1, hx.2.2.2.2.2.1]
    have eL : nI S.1.2.length - 1 = nI (S.1.2.length - 1) := by rw [show (1 : Int32) = nI 1 from rfl, nI_sub (by omega)]
    rw [eL]
    generalize hL : S.1.2.length - 1 = L
    have loop : ∀ (m k f : Nat) (t : Int32) (z : Nat → Int32), k + m = L → m < f → z 17 = nI L → ∃ z', mL_goes_37 N f t (nI k) z y' n' = some (t, z', y', n') ∧ (∀ j, j < 18 → z' j = z j) ∧ (∀ j, j < k → z' (18 + j) = z (18 + j) ∧ z' (58 + j) = z (58 + j)) ∧ ∀ j, k ≤ j → j < L → z' (18 + j) = z (18 + (j + 1)) ∧ z' (58 + j) = z (58 + (j + 1)) := by
      intro m
      induction m with
      | zero =>
        intro k f t z hk hf hz
        obtain ⟨f, rfl⟩ : ∃ q, f = q + 1 := ⟨f - 1, by omega⟩
        refine ⟨z, ?_, fun j _ => rfl, fun j _ => ⟨rfl, rfl⟩, fun j j1 j2 => by omega⟩
        unfold mL_goes_37
        rw [hz, if_pos (nI_le (by omega) (by omega))]
      | succ m ih =>
        intro k f t z hk hf hz
        obtain ⟨f, rfl⟩ : ∃ q, f = q + 1 := ⟨f - 1, by omega⟩
        have hk39 : k < 39 := by omega
        have z17 : upd (upd z (18 + k) (z (18 + (k + 1)))) (58 + k) (upd z (18 + k) (z (18 + (k + 1))) (58 + (k + 1))) 17 = nI L := by
          refine (if_neg (by omega)).trans ((if_neg (by omega)).trans hz)
        obtain ⟨z', e1, e2, e3, e4⟩ := ih (k + 1) f t (upd (upd z (18 + k) (z (18 + (k + 1)))) (58 + k) (upd z (18 + k) (z (18 + (k + 1))) (58 + (k + 1)))) (by omega) (by omega) z17
        have low : ∀ j, j ≠ 18 + k → j ≠ 58 + k → upd (upd z (18 + k) (z (18 + (k + 1)))) (58 + k) (upd z (18 + k) (z (18 + (k + 1))) (58 + (k + 1))) j = z j := fun j j1 j2 => (if_neg j2).trans (if_neg j1)
        refine ⟨z', ?_, fun j hj => (e2 j hj).trans (low j (by omega) (by omega)), fun j hj => ?_, fun j j1 j2 => ?_⟩
        · unfold mL_goes_37
          rw [hz, if_neg (nI_ge (by omega) (by omega)), show (18 : Int32) = nI 18 from rfl, show (58 : Int32) = nI 58 from rfl, nI_add, nI_add, ← nI_succ, ← nI_succ, gd_nI (by omega) (by omega), gd_nI (by omega) (by omega), gd_nI (by omega) (by omega), gd_nI (by omega) (by omega), ← nI_succ]
          exact e1
        · obtain ⟨w1, w2⟩ := e3 j (by omega)
          exact ⟨w1.trans (low _ (by omega) (by omega)), w2.trans (low _ (by omega) (by omega))⟩
        · by_cases cj : j = k
          · subst cj
            obtain ⟨w1, w2⟩ := e3 j (by omega)
            exact ⟨w1.trans ((if_neg (by omega)).trans (if_pos rfl)), w2.trans ((if_pos rfl).trans (if_neg (by omega)))⟩
          · obtain ⟨w1, w2⟩ := e4 j (by omega) j2
            exact ⟨w1.trans (low _ (by omega) (by omega)), w2.trans (low _ (by omega) (by omega))⟩
    obtain ⟨z', e1, e2, e3, e4⟩ := loop (L - i) i N (nI (S.1.2.getD i (0, 0)).1) (upd x 17 (nI L)) (by omega) (by omega) (if_pos rfl)
    have ox : ∀ j, j ≠ 17 → upd x 17 (nI L) j = x j := fun j hj => if_neg hj
    have hle : (S.1.2.eraseIdx i).length = L := by rw [List.length_eraseIdx, if_pos hi]; exact hL
    refine ⟨z', y', n', e1, hx.rows hok.1.1.2.1 (fun j hj => (e2 j (by omega)).trans (ox j (by omega))) ((e2 17 (by omega)).trans (by rw [hle]; exact if_pos rfl)) (fun j hj => ?_), m2, by simp⟩
    rw [hle] at hj
    by_cases cj : j < i
    · have g : (S.1.2.eraseIdx i).getD j (0, 0) = S.1.2.getD j (0, 0) := by
        simp only [List.getD_eq_getElem?_getD, List.getElem?_eraseIdx_of_lt cj]
      rw [g, (e3 j cj).1, (e3 j cj).2, ox _ (by omega), ox _ (by omega)]
      exact hx.2.2.2.2.2.2 j (by omega)
    · have g : (S.1.2.eraseIdx i).getD j (0, 0) = S.1.2.getD (j + 1) (0, 0) := by
        simp only [List.getD_eq_getElem?_getD, List.getElem?_eraseIdx_of_ge (show i ≤ j by omega)]
      rw [g, (e4 j (by omega) hj).1, (e4 j (by omega) hj).2, ox _ (by omega), ox _ (by omega)]
      exact hx.2.2.2.2.2.2 (j + 1) (by omega)

/-! PURE F4: the model's comes -/
theorem ins_get {l : List (Nat × Nat)} {p j : Nat} {v : Nat × Nat} (hp : p ≤ l.length) : (l.insertIdx p v).getD j (0, 0) = if j < p then l.getD j (0, 0) else if j = p then v else l.getD (j - 1) (0, 0) := by
  simp only [List.getD_eq_getElem?_getD, List.getElem?_insertIdx]
  by_cases c1 : j < p
  · simp [c1]
  · by_cases c2 : j = p
    · subst c2; simp [hp]
    · simp [c1, c2]
theorem m_comes {N : Nat} {x y : Nat → Int32} {n a b : Int32} {S : Sp} (hN : 600 ≤ N) (hx : MDk x S.1) (hok : DkOk S.1) (h : MPa y n S.2.1) : ∃ x' y' n', mF_comes N a b x y n = some ((spComes S a b).1, x', y', n') ∧ MDk x' (spComes S a b).2.1 ∧ MPa y' n' (spComes S a b).2.2.1 ∧ (spComes S a b).2.2.2 = S.2.2 := by
  have l2 : S.1.2.length ≤ 40 := hok.2.2.1
  have hsr : Srt S.1.2 := hok.2.1
  have hv := hok.2.2.2
  unfold mF_comes mB_comes_17 spComes
  rw [show (99 : Int32) = nI 100 - 1 from by decide, min_at (by decide)]
  cases e : iR a 100 with
  | none => exact ⟨x, y, n, rfl, hx, h, rfl⟩
  | some t =>
    obtain ⟨rfl, ht⟩ := iR_some (by decide) e
    simp only [Option.isSome_some, if_true, Option.bind_some]
    rw [if_neg (by decide), isSign_m]
    cases e2 : iR b 5 with
    | none => exact ⟨x, y, n, rfl, hx, h, rfl⟩
    | some s =>
      obtain ⟨rfl, hs⟩ := iR_some (by decide) e2
      simp only [Option.isSome_some, if_true, Option.bind_some]
      rw [if_neg (by decide)]
      have hlb := lbP_ok (x := t) hsr
      generalize hp : lbP S.1.2 t = p at *
      have loop : ∀ (m k f : Nat), k + m = S.1.2.length → m < f → (∀ j, j < k → (S.1.2.getD j (0, 0)).1 ≠ t) → mL_comes_24 N f (nI t) (nI s) (nI (min k p)) (nI k) x y n = if (∃ j, j < S.1.2.length ∧ (S.1.2.getD j (0, 0)).1 = t) then some (-2, x, y, n) else if S.1.2.length = 40 then some (-3, x, y, n) else (mF_note N x y n).bind fun y16 => mL_comes_109 N N (nI t) (nI s) (nI p) (nI S.1.2.length) x y16.1 y16.2 := by
        intro m
        induction m with
        | zero =>
          intro k f hk hf hne
          obtain ⟨f, rfl⟩ : ∃ q, f = q + 1 := ⟨f - 1, by omega⟩
          have hn : ¬ (∃ j, j < S.1.2.length ∧ (S.1.2.getD j (0, 0)).1 = t) := by
            rintro ⟨j, j1, j2⟩
            exact hne j (by omega) j2
          rw [if_neg hn]
          unfold mL_comes_24
          rw [hx.2.2.2.2.2.1, if_pos (show nI S.1.2.length ≤ nI k from nI_le (by omega) (by omega)), show min k p = p by have := hlb.1; omega]
          by_cases c : S.1.2.length = 40
          · rw [if_pos (show nI S.1.2.length = (40 : Int32) from by rw [c]; rfl), if_pos c]
          · rw [if_neg c, if_neg (show ¬ nI S.1.2.length = (40 : Int32) from fun z => c ((nI_eq (b := 40) (by omega) (by omega)).mp z))]
        | succ m ih =>
          intro k f hk hf hne
          obtain ⟨f, rfl⟩ : ∃ q, f = q + 1 := ⟨f - 1, by omega⟩
          obtain ⟨r1, r2⟩ := hx.2.2.2.2.2.2 k (by omega)
          have hm := getD_mem (show k < S.1.2.length by omega)
          have hkv := hv _ hm.2
          have hlk := hlb.2 k _ hm.1
          unfold mL_comes_24 mB_comes_73
          rw [hx.2.2.2.2.2.1, if_neg (nI_ge (by omega) (by omega)), show (18 : Int32) = nI 18 from rfl, nI_add, gd_nI (by omega) (by omega)]
          simp only [Option.bind_some]
          rw [r1]
          by_cases c : (S.1.2.getD k (0, 0)).1 = t
          · rw [if_pos (by rw [c]), if_pos ⟨k, by omega, c⟩]
          · rw [if_neg (fun z => c ((nI_eq (by omega) (by omega)).mp z))]
            have nx := ih (k + 1) f (by omega) (by omega) (fun j hj => by
              by_cases cj : j = k
              · rw [cj]; exact c
              · exact hne j (by omega))
            by_cases c3 : t ≤ (S.1.2.getD k (0, 0)).1
            · rw [if_pos (nI_le c3 (by omega)), ← nI_succ, show nI (min k p) + 0 = nI (min (k + 1) p) by rw [Int32.add_zero]; congr 1; omega]
              exact nx
            · rw [if_neg (nI_ge (by omega) (by omega)), ← nI_succ, ← nI_succ, show min k p + 1 = min (k + 1) p by omega]
              exact nx
      have lp := loop S.1.2.length 0 N (by omega) (by omega) (fun j hj => by omega)
      rw [Nat.zero_min] at lp
      rw [show (0 : Int32) = nI 0 from rfl, lp]
      have hiff : (∃ j, j < S.1.2.length ∧ (S.1.2.getD j (0, 0)).1 = t) ↔ hsT S.1.2 t = true := by
        rw [hsT_iff, hp]
        constructor
        · rintro ⟨j, j1, j2⟩
          have hm := (getD_mem j1).1
          have := (LowB.of hsr hm).uniq (by rw [j2]; exact hlb)
          exact ⟨(S.1.2.getD j (0, 0)).2, by rw [← this, hm, ← j2]⟩
        · rintro ⟨v, hv⟩
          obtain ⟨q1, q2⟩ := List.getElem?_eq_some_iff.mp hv
          exact ⟨p, q1, by simp [List.getD_eq_getElem?_getD, hv]⟩
      by_cases c : hsT S.1.2 t = true
      · rw [if_pos (hiff.mpr c), if_pos c]
        exact ⟨x, y, n, rfl, hx, h, rfl⟩
      rw [if_neg (fun z => c (hiff.mp z)), if_neg c]
      by_cases c4 : S.1.2.length = 40
      · rw [if_pos c4, if_pos c4]
        exact ⟨x, y, n, rfl, hx, h, rfl⟩
      rw [if_neg c4, if_neg c4]
      obtain ⟨y', n', m1, m2⟩ := m_note hN hx hok h
      have hpl := hlb.1
      obtain ⟨z', e1, e2, e3, e4, e5, e6, -⟩ := up_109 (N := N) (p := p) (a := nI t) (b := nI s) (n := n') (y := y') (S.1.2.length - p) S.1.2.length N x (by omega) (by omega) (by omega)
      rw [m1]
      have hli : (S.1.2.insertIdx p (t, s)).length = S.1.2.length + 1 := List.length_insertIdx_of_le_length hpl _
      refine ⟨z', y', n', e1, hx.rows hok.1.1.2.1 e2 (by rw [e3, hx.2.2.2.2.2.1, hli, nI_succ]) (fun j hj => ?_), m2, by simp⟩
      rw [hli] at hj
      rw [ins_get hpl]
      by_cases c1 : j < p
      · rw [if_pos c1, (e4 j c1).1, (e4 j c1).2]
        exact hx.2.2.2.2.2.2 j (by omega)
      rw [if_neg c1]
      by_cases c2 : j = p
      · rw [if_pos c2, c2]; exact e5
      rw [if_neg c2]
      obtain ⟨j, rfl⟩ : ∃ q, j = q + 1 := ⟨j - 1, by omega⟩
      rw [(e6 j (by omega) (by omega)).1, (e6 j (by omega) (by omega)).2]
      exact hx.2.2.2.2.2.2 j (by omega)

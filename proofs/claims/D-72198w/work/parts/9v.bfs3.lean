/-! PURE 52: the places are closed under all signs -/
theorem stF_mem {rs : List Ru} {p s : Nat} (h0 : pM rs p s = 0) : ∀ {ss l : List Nat}, s ∈ ss → pB rs p s ∈ stF rs p l ss
  | [], _, h => by simp at h
  | a :: ss, l, h => by
    show pB rs p s ∈ stF rs p (stP rs p l a) ss
    rcases List.mem_cons.mp h with e | e
    · subst e
      obtain ⟨t, ht⟩ := stF_pre rs p ss (stP rs p l s)
      rw [ht]
      refine List.mem_append.mpr (Or.inl ?_)
      unfold stP
      rw [if_pos h0]
      exact addN_mem
    · exact stF_mem h0 e
theorem stF_ok {rs : List Ru} (hb : bks rs ≤ 6) {p : Nat} : ∀ {ss l : List Nat}, l.Nodup → (∀ y ∈ l, y < 64) → (stF rs p l ss).Nodup ∧ ∀ y ∈ stF rs p l ss, y < 64
  | [], l, h1, h2 => ⟨h1, h2⟩
  | a :: ss, l, h1, h2 => by
    have h3 : (stP rs p l a).Nodup ∧ ∀ y ∈ stP rs p l a, y < 64 := by
      unfold stP
      split
      · refine ⟨addN_nd h1, fun y hy => ?_⟩
        unfold addN at hy
        split at hy
        · exact h2 y hy
        · rcases List.mem_append.mp hy with w | w
          · exact h2 y w
          · simp at w; rw [w]; exact pB64 hb _ _
      · exact ⟨h1, h2⟩
    exact stF_ok (ss := ss) (l := stP rs p l a) hb h3.1 h3.2
theorem len64 {l : List Nat} (h1 : l.Nodup) (h2 : ∀ y ∈ l, y < 64) : l.length ≤ 64 := by
  have := nodup_sub h1 (m := List.range 64) (fun a ha => List.mem_range.mpr (h2 a ha))
  simpa using this
/-- closed under the signs: the places below k -/
def Clo (rs : List Ru) (l : List Nat) (k : Nat) : Prop := ∀ i, i < k → ∀ p, l[i]? = some p → ∀ s, s < 5 → pM rs p s = 0 → pB rs p s ∈ l
theorem bfs_ok {rs : List Ru} (hb : bks rs ≤ 6) : ∀ (j k : Nat) (l : List Nat), k + j = 64 → l.Nodup → (∀ y ∈ l, y < 64) → Clo rs l k → Clo rs (bfsL rs j k l) 64 ∧ (bfsL rs j k l).Nodup ∧ (∀ y ∈ bfsL rs j k l, y < 64) ∧ ∃ t, bfsL rs j k l = l ++ t := by
  intro j
  induction j with
  | zero =>
    intro k l hj h1 h2 h3
    have : k = 64 := by omega
    subst this
    exact ⟨h3, h1, h2, [], by simp [bfsL]⟩
  | succ j ih =>
    intro k l hj h1 h2 h3
    cases ek : l[k]? with
    | none =>
      have eb : bfsL rs (j + 1) k l = l := by rw [bfsL, ek]
      rw [eb]
      refine ⟨fun i hi p hp => ?_, h1, h2, [], by simp⟩
      have := List.getElem?_eq_none_iff.mp ek
      have := (List.getElem?_eq_some_iff.mp hp).1
      exact h3 i (by omega) p hp
    | some p =>
      obtain ⟨t, ht⟩ := stF_pre rs p (List.range' 0 5) l
      obtain ⟨o1, o2⟩ := stF_ok hb (p := p) (ss := List.range' 0 5) h1 h2
      have hk := (List.getElem?_eq_some_iff.mp ek).1
      have eb : bfsL rs (j + 1) k l = bfsL rs j (k + 1) (stF rs p l (List.range' 0 5)) := by rw [bfsL, ek]
      have hc : Clo rs (stF rs p l (List.range' 0 5)) (k + 1) := by
        intro i hi q hq s hs h0
        by_cases ci : i = k
        · subst ci
          rw [ht, List.getElem?_append_left hk, ek] at hq
          cases hq
          exact stF_mem h0 (by rw [List.mem_range'_1]; omega)
        · rw [ht, List.getElem?_append_left (by omega)] at hq
          rw [ht]
          exact List.mem_append.mpr (Or.inl (h3 i (by omega) q hq s hs h0))
      obtain ⟨r1, r2, r3, t2, r4⟩ := ih (k + 1) (stF rs p l (List.range' 0 5)) (by omega) o1 o2 hc
      rw [eb]
      exact ⟨r1, r2, r3, t ++ t2, by rw [r4, ht, List.append_assoc]⟩
/-- the places of a plan -/
def plcs (rs : List Ru) : List Nat := bfsL rs 64 0 [0]
theorem plcs_ok {rs : List Ru} (hb : bks rs ≤ 6) : (plcs rs).Nodup ∧ (∀ y ∈ plcs rs, y < 64) ∧ (plcs rs)[0]? = some 0 ∧ (plcs rs).length ≤ 64 ∧ ∀ k (hk : k < (plcs rs).length) s, s < 5 → pM rs (plcs rs)[k] s = 0 → pB rs (plcs rs)[k] s ∈ plcs rs := by
  obtain ⟨h1, h2, h3, t, h4⟩ := bfs_ok hb 64 0 [0] (by omega) (by simp) (by simp) (fun i hi => absurd hi (Nat.not_lt_zero _))
  have hl := len64 h2 h3
  refine ⟨h2, h3, ?_, hl, fun k hk s hs h0 => h1 k ?_ _ (List.getElem?_eq_getElem hk) s hs h0⟩
  · show (bfsL rs 64 0 [0])[0]? = _
    rw [h4]; rfl
  · have : k < (bfsL rs 64 0 [0]).length := hk
    omega

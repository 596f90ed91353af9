/-! PURE 55: lists of first appearances -/
theorem kS_mem {f : Nat → List Nat} {x : List Nat} : ∀ {n : Nat}, x ∈ kS f n ↔ ∃ i, i < n ∧ f i = x
  | 0 => by simp [kS]
  | n + 1 => by
    have ih := kS_mem (f := f) (x := x) (n := n)
    rw [kS]
    constructor
    · intro h
      split at h
      · obtain ⟨i, h1, h2⟩ := ih.mp h
        exact ⟨i, by omega, h2⟩
      · rcases List.mem_append.mp h with w | w
        · obtain ⟨i, h1, h2⟩ := ih.mp w
          exact ⟨i, by omega, h2⟩
        · exact ⟨n, by omega, (List.mem_singleton.mp w).symm⟩
    · rintro ⟨i, h1, h2⟩
      by_cases c : i = n
      · subst c
        split
        · rename_i w; rwa [← h2]
        · rw [h2]; simp
      · have : x ∈ kS f n := ih.mpr ⟨i, by omega, h2⟩
        split
        · exact this
        · exact List.mem_append.mpr (Or.inl this)
theorem kS_nd {f : Nat → List Nat} : ∀ n : Nat, (kS f n).Nodup
  | 0 => by simp [kS]
  | n + 1 => by
    have ih := kS_nd (f := f) n
    rw [kS]
    split
    · exact ih
    · rename_i c
      rw [List.nodup_append]
      refine ⟨ih, by simp, fun a ha b hb e => ?_⟩
      simp at hb
      exact c (hb ▸ e ▸ ha)
/-- a finer one has at least as many -/
theorem kS_ref {f g : Nat → List Nat} : ∀ {n : Nat}, (∀ i, i < n → ∀ k, k < n → f i = f k → g i = g k) → (kS g n).length ≤ (kS f n).length
  | 0, _ => by simp [kS]
  | n + 1, h => by
    have ih := kS_ref (f := f) (g := g) (n := n) (fun i hi k hk => h i (by omega) k (by omega))
    by_cases c : g n ∈ kS g n
    · have e : kS g (n + 1) = kS g n := by rw [kS, if_pos c]
      have := (kS_mono (f := f) (show n ≤ n + 1 by omega)).1
      rw [e]; omega
    · have c2 : f n ∉ kS f n := fun z => by
        obtain ⟨i, h1, h2⟩ := kS_mem.mp z
        exact c (kS_mem.mpr ⟨i, h1, h i (by omega) n (by omega) h2⟩)
      have e : kS g (n + 1) = kS g n ++ [g n] := by rw [kS, if_neg c]
      have e2 : kS f (n + 1) = kS f n ++ [f n] := by rw [kS, if_neg c2]
      rw [e, e2, List.length_append, List.length_append]
      simp; omega
/-- a finer one that has no more is no finer -/
theorem kS_stab {f g : Nat → List Nat} : ∀ {n : Nat}, (∀ i, i < n → ∀ k, k < n → f i = f k → g i = g k) → (kS f n).length ≤ (kS g n).length → ∀ i, i < n → ∀ k, k < n → g i = g k → f i = f k
  | 0, _, _, i, hi, _, _, _ => absurd hi (Nat.not_lt_zero _)
  | n + 1, h, hl, i, hi, k, hk, e => by
    have h' : ∀ i, i < n → ∀ k, k < n → f i = f k → g i = g k := fun i hi k hk => h i (by omega) k (by omega)
    have r := kS_ref (f := f) (g := g) (n := n) h'
    have both : (kS f n).length ≤ (kS g n).length ∧ (g n ∈ kS g n → f n ∈ kS f n) := by
      by_cases c : g n ∈ kS g n
      · have eg : kS g (n + 1) = kS g n := by rw [kS, if_pos c]
        by_cases c2 : f n ∈ kS f n
        · have ef : kS f (n + 1) = kS f n := by rw [kS, if_pos c2]
          rw [eg, ef] at hl
          exact ⟨hl, fun _ => c2⟩
        · have ef : kS f (n + 1) = kS f n ++ [f n] := by rw [kS, if_neg c2]
          rw [eg, ef, List.length_append] at hl
          simp at hl; omega
      · have eg : kS g (n + 1) = kS g n ++ [g n] := by rw [kS, if_neg c]
        have c2 : f n ∉ kS f n := fun z => by
          obtain ⟨i, h1, h2⟩ := kS_mem.mp z
          exact c (kS_mem.mpr ⟨i, h1, h i (by omega) n (by omega) h2⟩)
        have ef : kS f (n + 1) = kS f n ++ [f n] := by rw [kS, if_neg c2]
        rw [eg, ef, List.length_append, List.length_append] at hl
        simp at hl
        exact ⟨by omega, fun z => absurd z c⟩
    have ih := kS_stab (f := f) (g := g) (n := n) h' both.1
    have last : ∀ i, i < n → g i = g n → f i = f n := fun i hi e => by
      obtain ⟨j, h1, h2⟩ := kS_mem.mp (both.2 (kS_mem.mpr ⟨i, hi, e⟩))
      have := h j (by omega) n (by omega) h2
      exact (ih i hi j h1 (e.trans this.symm)).trans h2
    by_cases ci : i = n
    · by_cases ck : k = n
      · rw [ci, ck]
      · rw [ci]
        rw [ci] at e
        exact (last k (by omega) e.symm).symm
    · by_cases ck : k = n
      · rw [ck]
        rw [ck] at e
        exact last i (by omega) e
      · exact ih i (by omega) k (by omega) e
/-- the number of a value by when it first comes -/
def nm (f : Nat → List Nat) (n k : Nat) : Nat := (kS f n).idxOf (f k)
theorem nm_lt {f : Nat → List Nat} {n k : Nat} (h : k < n) : nm f n k < (kS f n).length := List.idxOf_lt_length_of_mem (kS_mem.mpr ⟨k, h, rfl⟩)
theorem nm_at {f : Nat → List Nat} {n k : Nat} (h : k < n) : (kS f n)[nm f n k]? = some (f k) := by
  rw [List.getElem?_eq_getElem (nm_lt h)]
  exact congrArg some (List.getElem_idxOf (nm_lt h))
theorem nm_uniq {f : Nat → List Nat} {n k j : Nat} (h : (kS f n)[j]? = some (f k)) : j = nm f n k := by
  obtain ⟨h1, h2⟩ := List.getElem?_eq_some_iff.mp h
  have hm : f k ∈ kS f n := h2 ▸ List.getElem_mem h1
  have hl := List.idxOf_lt_length_of_mem hm
  have e : (kS f n)[(kS f n).idxOf (f k)] = f k := List.getElem_idxOf hl
  exact (List.getElem_inj (kS_nd n)).mp (h2.trans e.symm)
theorem nm_eq {f : Nat → List Nat} {n i k : Nat} (hi : i < n) (hk : k < n) : nm f n i = nm f n k ↔ f i = f k := by
  constructor
  · intro e
    have h1 := nm_at (f := f) hi
    rw [e, nm_at hk] at h1
    exact (Option.some.inj h1).symm
  · intro e
    unfold nm
    rw [e]
theorem kS_len {f : Nat → List Nat} : ∀ n : Nat, (kS f n).length ≤ n
  | 0 => by simp [kS]
  | n + 1 => by
    have ih := kS_len (f := f) n
    rw [kS]
    split
    · omega
    · simp; omega
theorem nm_le {f : Nat → List Nat} {n k : Nat} : nm f n k ≤ n := Nat.le_trans List.idxOf_le_length (kS_len n)

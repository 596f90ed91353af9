/-! PURE F6: the model's scan: letters, figures -/
section X
variable {N : Nat} {x : Nat → Int32} {l : List Nat}
theorem let_m (h : MTx x (nI l.length) l) (h256 : ∀ c ∈ l, c < 256) {ta ts tv : Int32} : ∀ (m a f : Nat), a + m = l.length → m < f → mL_scan_228 N x (nI l.length) f (nI a) ta ts tv = mB_scan_267 N x (nI l.length) (nI (skW isLe l a)) ta ts tv := by
  obtain ⟨-, h2, h3⟩ := h
  intro m
  induction m with
  | zero =>
    intro a f ha hf
    obtain ⟨f, rfl⟩ : ∃ q, f = q + 1 := ⟨f - 1, by omega⟩
    unfold mL_scan_228
    rw [if_pos (nI_le (by omega) (by omega)), skW_stop (fun c hc => by
      have := List.getElem?_eq_none_iff.mpr (show l.length ≤ a by omega)
      rw [this] at hc; cases hc)]
  | succ m ih =>
    intro a f ha hf
    obtain ⟨f, rfl⟩ : ∃ q, f = q + 1 := ⟨f - 1, by omega⟩
    have hal : a < l.length := by omega
    have hg : l[a]? = some (l[a]) := List.getElem?_eq_getElem hal
    have hxa : x a = nI l[a] := by rw [h2 a hal]; simp [hal]
    have hc := h256 _ (List.getElem_mem hal)
    unfold mL_scan_228
    rw [if_neg (nI_ge (by omega) (by omega)), gd_nI (by omega) (by omega)]
    simp only [Option.bind_some]
    rw [hxa, isLet_m hc]
    simp only [Option.bind_some]
    by_cases c : isLe l[a] = true
    · rw [if_pos c, if_neg (by decide), ← nI_succ, (skW_step hg c).1]
      exact ih (a + 1) f (by omega) (by omega)
    · rw [if_neg c, if_pos rfl, skW_stop (fun c' hc' => by
        rw [hg] at hc'; cases hc'
        simpa using c)]
end X

/-! PURE F5: the model's scan -/
theorem min_N {N a lo hi : Nat} (ha : a < 2 ^ 31) (hl : lo < 2 ^ 31) (hh : hi < 2 ^ 31) : mF_in N (nI a) (nI lo) (nI hi) = some (if lo ≤ a ∧ a ≤ hi then 1 else 0) := by
  unfold mF_in mB_in_14 mB_in_15
  by_cases c1 : a < lo
  · rw [if_pos (nI_lt c1 hl), if_pos (by decide), if_neg (by omega)]
  · rw [if_neg (nI_nlt (by omega) ha)]
    by_cases c2 : hi < a
    · rw [if_pos (nI_lt c2 ha), if_pos (by decide), if_neg (by omega)]
    · rw [if_neg (nI_nlt (by omega) hh), if_pos (by decide), if_pos (by omega)]
theorem isFig_m {N c : Nat} (hc : c < 256) : mF_isFigure N (nI c) = some (if isDg c then 1 else 0) := by
  unfold mF_isFigure isDg
  rw [show (48 : Int32) = nI 48 from rfl, show (57 : Int32) = nI 57 from rfl, min_N (by omega) (by omega) (by omega)]
  by_cases h : 48 ≤ c ∧ c ≤ 57
  · rw [if_pos h, if_pos (by simp [h])]; rfl
  · rw [if_neg h, if_neg (by simpa using h)]; rfl
theorem isLet_m {N c : Nat} (hc : c < 256) : mF_isLetter N (nI c) = some (if isLe c then 1 else 0) := by
  unfold mF_isLetter isLe
  rw [show (97 : Int32) = nI 97 from rfl, show (122 : Int32) = nI 122 from rfl, min_N (by omega) (by omega) (by omega)]
  by_cases h : 97 ≤ c ∧ c ≤ 122
  · rw [if_pos h, if_pos (by simp [h])]; rfl
  · rw [if_neg h, if_neg (by simpa using h)]; rfl
/-- the model skips spaces -/
theorem skip_m {N : Nat} {x : Nat → Int32} {l : List Nat} (h : MTx x (nI l.length) l) (h256 : ∀ c ∈ l, c < 256) {ta ts tv : Int32} : ∀ (m a f : Nat), a + m = l.length → m < f → mL_scan_0 N x (nI l.length) f (nI a) ta ts tv = mB_scan_38 N x (nI l.length) (nI (skW isSp l a)) ta ts tv := by
  obtain ⟨-, h2, h3⟩ := h
  intro m
  induction m with
  | zero =>
    intro a f ha hf
    obtain ⟨f, rfl⟩ : ∃ q, f = q + 1 := ⟨f - 1, by omega⟩
    unfold mL_scan_0
    rw [if_pos (nI_le (by omega) (by omega)), skW_stop (fun c hc => by
      have := List.getElem?_eq_none_iff.mpr (show l.length ≤ a by omega)
      rw [this] at hc; cases hc)]
  | succ m ih =>
    intro a f ha hf
    obtain ⟨f, rfl⟩ : ∃ q, f = q + 1 := ⟨f - 1, by omega⟩
    have hal : a < l.length := by omega
    have hg : l[a]? = some (l[a]) := List.getElem?_eq_getElem hal
    have hxa : x a = nI l[a] := by rw [h2 a hal]; simp [hal]
    have hc := h256 _ (List.getElem_mem hal)
    unfold mL_scan_0
    rw [if_neg (nI_ge (by omega) (by omega)), gd_nI (by omega) (by omega)]
    simp only [Option.bind_some]
    rw [hxa]
    by_cases c : l[a] = 32
    · rw [if_pos (by rw [c]; rfl), ← nI_succ, (skW_step hg (by unfold isSp; exact decide_eq_true c)).1]
      exact ih (a + 1) f (by omega) (by omega)
    · rw [if_neg (show ¬ nI l[a] = (32 : Int32) from fun z => c ((nI_eq (b := 32) (by omega) (by omega)).mp z)), skW_stop (fun c' hc' => by
        rw [hg] at hc'; cases hc'
        exact decide_eq_false c)]

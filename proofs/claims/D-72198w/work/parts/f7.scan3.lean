/-! PURE F7: the model's scan: figures -/
/-- the model's value goes on above 100 -/
def nvR (v acc : Nat) : Prop := (acc ≤ 99 ∧ v = acc) ∨ (acc = 100 ∧ 99 < v ∧ v ≤ 1000)
section X
variable {N : Nat} {x : Nat → Int32} {l : List Nat}
theorem fig_m (h : MTx x (nI l.length) l) (h256 : ∀ c ∈ l, c < 256) {l1 ta ts : Int32} : ∀ (m a f v acc : Nat), a + m = l.length → m < f → nvR v acc → ∃ v', nvR v' (((l.drop a).takeWhile isDg).foldl nvF acc) ∧ mL_scan_102 N x (nI l.length) f l1 (nI a) ta ts (nI v) = mB_scan_181 N x (nI l.length) l1 (nI (skW isDg l a)) ta ts (nI v') := by
  obtain ⟨-, h2, h3⟩ := h
  intro m
  induction m with
  | zero =>
    intro a f v acc ha hf hr
    obtain ⟨f, rfl⟩ : ∃ q, f = q + 1 := ⟨f - 1, by omega⟩
    refine ⟨v, ?_, ?_⟩
    · rw [List.drop_eq_nil_of_le (by omega)]; exact hr
    · unfold mL_scan_102
      rw [if_pos (nI_le (by omega) (by omega)), skW_stop (fun c hc => by
        have := List.getElem?_eq_none_iff.mpr (show l.length ≤ a by omega)
        rw [this] at hc; cases hc)]
  | succ m ih =>
    intro a f v acc ha hf hr
    obtain ⟨f, rfl⟩ : ∃ q, f = q + 1 := ⟨f - 1, by omega⟩
    have hal : a < l.length := by omega
    have hg : l[a]? = some (l[a]) := List.getElem?_eq_getElem hal
    have hxa : x a = nI l[a] := by rw [h2 a hal]; simp [hal]
    have hc := h256 _ (List.getElem_mem hal)
    by_cases c : isDg l[a] = true
    · have hd := of_decide_eq_true c
      obtain ⟨s1, s2⟩ := skW_step hg c
      rw [s2, s1]
      have fin : ∀ v2, nvR v2 (nvF acc l[a]) → ∃ v', nvR v' ((l[a] :: (l.drop (a + 1)).takeWhile isDg).foldl nvF acc) ∧ mL_scan_102 N x (nI l.length) f l1 (nI (a + 1)) ta ts (nI v2) = mB_scan_181 N x (nI l.length) l1 (nI (skW isDg l (a + 1))) ta ts (nI v') := fun v2 h2 => ih (a + 1) f v2 (nvF acc l[a]) (by omega) (by omega) h2
      have st : mL_scan_102 N x (nI l.length) (f + 1) l1 (nI a) ta ts (nI v) = mL_scan_102 N x (nI l.length) f l1 (nI (a + 1)) ta ts (nI (if v ≤ 99 then 10 * v + l[a] - 48 else v)) := by
        rw [mL_scan_102]
        rw [if_neg (nI_ge (by omega) (by omega)), gd_nI (by omega) (by omega)]
        simp only [Option.bind_some]
        rw [hxa, isFig_m hc]
        simp only [Option.bind_some]
        rw [if_pos c, if_neg (by decide)]
        unfold mB_scan_165
        by_cases cv : v ≤ 99
        · rw [if_pos (show nI v ≤ (99 : Int32) from nI_le (b := 99) cv (by omega)), if_pos cv, show (10 : Int32) = nI 10 from rfl, show (48 : Int32) = nI 48 from rfl, nI_mul, nI_add, nI_sub (by omega), ← nI_succ]
        · rw [if_neg (show ¬ nI v ≤ (99 : Int32) from nI_ge (a := 99) (by omega) (by rcases hr with w | w <;> omega)), if_neg cv, ← nI_succ]
      rw [st]
      refine fin _ ?_
      unfold nvR nvF
      rcases hr with ⟨w1, w2⟩ | ⟨w1, w2, w3⟩
      · rw [if_pos (by omega)]; omega
      · rw [if_neg (by omega)]; omega
    · refine ⟨v, ?_, ?_⟩
      · rw [drop_cons hg, List.takeWhile_cons_of_neg c]; exact hr
      · rw [mL_scan_102, if_neg (nI_ge (by omega) (by omega)), gd_nI (by omega) (by omega)]
        simp only [Option.bind_some]
        rw [hxa, isFig_m hc]
        simp only [Option.bind_some]
        rw [if_neg c, if_pos rfl, skW_stop (fun c' hc' => by
          rw [hg] at hc'; cases hc'
          simpa using c)]
end X

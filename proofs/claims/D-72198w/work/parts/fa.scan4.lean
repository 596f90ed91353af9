/-! PURE FA: the model's scan, whole -/
section X
variable {N : Nat} {x : Nat → Int32} {l : List Nat}
theorem scan_m (hN : 600 ≤ N) (h : MTx x (nI l.length) l) (h256 : ∀ c ∈ l, c < 256) {a : Nat} (ha : a ≤ l.length) {ta ts tv : Int32} : ∃ tv', mF_scan N x (nI l.length) (nI a) ta ts tv = some (nI (lexT l a).2.2.2, nI (lexT l a).1, nI (mS (lexT l a).2.1), tv') ∧ ((lexT l a).2.1 = 1 → tv' = nI (lexT l a).2.2.1) := by
  obtain ⟨-, h2, h3⟩ := id h
  unfold mF_scan
  rw [skip_m h h256 (l.length - a) a N (by omega) (by omega)]
  have hb := skW_le (p := isSp) ha
  unfold lexT
  generalize skW isSp l a = b at *
  unfold mB_scan_38
  by_cases c0 : l.length ≤ b
  · have eb : b = l.length := by omega
    have en : l[b]? = none := List.getElem?_eq_none_iff.mpr c0
    have el : lexB l b = (b, 0, 0, b) := by unfold lexB; rw [en]
    rw [if_pos (nI_le c0 (by omega)), el]
    unfold mB_scan_70 mB_scan_312
    rw [if_pos (by rw [eb])]
    exact ⟨tv, rfl, fun e => by cases e⟩
  have hal : b < l.length := by omega
  have hg : l[b]? = some (l[b]) := List.getElem?_eq_getElem hal
  have hxa : x b = nI l[b] := by rw [h2 b hal]; simp [hal]
  have hc := h256 _ (List.getElem_mem hal)
  rw [if_neg (nI_ge (by omega) (by omega)), gd_nI (by omega) (by omega)]
  simp only [Option.bind_some]
  rw [hxa]
  unfold mB_scan_70
  rw [if_neg (fun z => by have := (nI_eq (by omega) (by omega)).mp z; omega), isFig_m hc]
  simp only [Option.bind_some]
  have eL : lexB l b = if isDg l[b] then (if ((l.drop b).takeWhile isDg).foldl nvF 0 ≤ 99 ∧ (l[b] ≠ 48 ∨ skW isDg l b = b + 1) then (b, 1, ((l.drop b).takeWhile isDg).foldl nvF 0, skW isDg l b) else (b, 6, 0, skW isDg l b)) else if isLe l[b] then (b, wdS ((l.drop b).takeWhile isLe), 0, skW isLe l b) else (b, (if l[b] = 59 then 2 else 6), 0, b + 1) := by
    unfold lexB; rw [hg]
  rw [eL]
  by_cases cd : isDg l[b] = true
  · rw [if_pos cd, if_neg (by decide), if_pos cd]
    obtain ⟨v', r1, r2⟩ := fig_m (N := N) h h256 (l1 := nI l[b]) (ta := nI b) (ts := ts) (l.length - b) b N 0 0 (by omega) (by omega) (Or.inl ⟨by omega, rfl⟩)
    rw [show (0 : Int32) = nI 0 from rfl, r2]
    have hs := skW_le (p := isDg) (show b + 1 ≤ l.length by omega)
    have hst := (skW_step hg cd).1
    generalize ((l.drop b).takeWhile isDg).foldl nvF 0 = F at *
    generalize skW isDg l b = at_ at *
    unfold mB_scan_181 mB_scan_210 mB_scan_214 mB_scan_215 mB_scan_312
    have hv : v' ≤ 1000 := by rcases r1 with w | w <;> omega
    by_cases c9 : 99 < v'
    · rw [if_pos (show (99 : Int32) < nI v' from nI_lt (a := 99) c9 (by omega)), if_neg (fun z => by rcases r1 with w | w <;> omega)]
      exact ⟨_, rfl, fun e => by cases e⟩
    · have ev : v' = F ∧ F ≤ 99 := by rcases r1 with w | w <;> omega
      rw [if_neg (show ¬ (99 : Int32) < nI v' from nI_nlt (a := 99) (by omega) (by omega))]
      by_cases c48 : l[b] = 48
      · rw [if_pos (show nI l[b] = (48 : Int32) from by rw [c48]; rfl), show nI b + 1 = nI (b + 1) from nI_add b 1]
        by_cases ce : at_ ≤ b + 1
        · rw [if_pos (nI_le ce (by omega)), if_pos ⟨ev.2, Or.inr (by omega)⟩]
          exact ⟨_, rfl, fun _ => by rw [ev.1]⟩
        · rw [if_neg (nI_ge (by omega) (by omega)), if_neg (fun z => by rcases z.2 with w | w; exact w c48; omega)]
          exact ⟨_, rfl, fun e => by cases e⟩
      · rw [if_neg (show ¬ nI l[b] = (48 : Int32) from fun z => c48 ((nI_eq (b := 48) (by omega) (by omega)).mp z)), if_pos ⟨ev.2, Or.inl c48⟩]
        exact ⟨_, rfl, fun _ => by rw [ev.1]⟩
  rw [if_neg cd, if_pos rfl, if_neg cd, isLet_m hc]
  simp only [Option.bind_some]
  by_cases cl : isLe l[b] = true
  · rw [if_pos cl, if_neg (by decide), if_pos cl, let_m h h256 (l.length - b) b N (by omega) (by omega)]
    have hs := skW_le (p := isLe) (show b ≤ l.length by omega)
    unfold mB_scan_267 mB_scan_312
    have hw : ((l.drop b).takeWhile isLe).length = skW isLe l b - b := by unfold skW; omega
    have hpre := List.takeWhile_prefix isLe (l := l.drop b)
    rw [nI_sub hs.1, ← hw, word_m (by omega) (fun i hi => ?_) (fun c hc => h256 c ?_)]
    · exact ⟨tv, rfl, fun e => by
        exfalso
        have : wdS ((l.drop b).takeWhile isLe) ≠ 1 := by
          unfold wdS
          split <;> (try split) <;> (try split) <;> omega
        exact this e⟩
    · have h1 := List.prefix_iff_getElem?.mp hpre i hi
      rw [List.getElem?_drop] at h1
      obtain ⟨j1, j2⟩ := List.getElem?_eq_some_iff.mp h1
      rw [h2 (b + i) j1, ← j2]
      simp [j1]
    · exact List.mem_of_mem_drop (List.takeWhile_subset isLe hc)
  · rw [if_neg cl, if_pos rfl, if_neg cl]
    unfold mB_scan_299 mB_scan_312
    by_cases c59 : l[b] = 59
    · rw [if_pos (show nI l[b] = (59 : Int32) from by rw [c59]; rfl), if_pos c59, c59]
      exact ⟨tv, by rw [show nI b + 1 = nI (b + 1) from nI_add b 1]; rfl, fun e => by cases e⟩
    · rw [if_neg (show ¬ nI l[b] = (59 : Int32) from fun z => c59 ((nI_eq (b := 59) (by omega) (by omega)).mp z)), if_neg c59]
      exact ⟨tv, by rw [show nI b + 1 = nI (b + 1) from nI_add b 1]; rfl, fun e => by cases e⟩
end X

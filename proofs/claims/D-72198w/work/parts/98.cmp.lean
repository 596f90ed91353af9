/-! PURE 29: String.compareTo -/
def sLt : List Nat → List Nat → Prop
  | _, [] => False
  | [], _ :: _ => True
  | a :: s, b :: t => a < b ∨ (a = b ∧ sLt s t)
theorem sLt_irrefl : ∀ l : List Nat, ¬ sLt l l
  | [] => fun h => h
  | a :: s => fun h => by
    rcases h with h | h
    · omega
    · exact sLt_irrefl s h.2
theorem sLt_trans : ∀ {l m r : List Nat}, sLt l m → sLt m r → sLt l r
  | _, _, [], _, h => by
    rename_i m _; cases m <;> exact h.elim
  | [], [], _ :: _, h, _ => h.elim
  | _ :: _, [], _ :: _, h, _ => h.elim
  | [], _ :: _, _ :: _, _, _ => trivial
  | a :: s, b :: t, c :: u, h1, h2 => by
    rcases h1 with h1 | ⟨h1, h1'⟩ <;> rcases h2 with h2 | ⟨h2, h2'⟩
    · exact Or.inl (by omega)
    · exact Or.inl (by omega)
    · exact Or.inl (by omega)
    · exact Or.inr ⟨by omega, sLt_trans h1' h2'⟩
theorem sLt_total : ∀ (l m : List Nat), l = m ∨ sLt l m ∨ sLt m l
  | [], [] => Or.inl rfl
  | [], _ :: _ => Or.inr (Or.inl trivial)
  | _ :: _, [] => Or.inr (Or.inr trivial)
  | a :: s, b :: t => by
    rcases Nat.lt_trichotomy a b with h | h | h
    · exact Or.inr (Or.inl (Or.inl h))
    · subst h
      rcases sLt_total s t with e | e | e
      · exact Or.inl (by rw [e])
      · exact Or.inr (Or.inl (Or.inr ⟨rfl, e⟩))
      · exact Or.inr (Or.inr (Or.inr ⟨rfl, e⟩))
    · exact Or.inr (Or.inr (Or.inl h))
theorem sLt_at : ∀ {l m : List Nat} {j a b : Nat}, (∀ t, t < j → l[t]? = m[t]?) → l[j]? = some a → m[j]? = some b → a < b → sLt l m
  | [], _, _, _, _, _, h, _, _ => by simp at h
  | _ :: _, [], _, _, _, _, _, h, _ => by simp at h
  | x :: s, y :: t, 0, a, b, _, h1, h2, h => by
    simp at h1 h2
    exact Or.inl (by omega)
  | x :: s, y :: t, j + 1, a, b, h0, h1, h2, h => by
    have e := h0 0 (by omega)
    simp at e
    refine Or.inr ⟨e, sLt_at (j := j) (fun k hk => ?_) (by simpa using h1) (by simpa using h2) h⟩
    have := h0 (k + 1) (by omega)
    simpa using this
theorem sLt_pre : ∀ {l m : List Nat}, (∀ t, t < l.length → l[t]? = m[t]?) → l.length < m.length → sLt l m
  | [], _ :: _, _, _ => trivial
  | _, [], _, h => by simp at h
  | x :: s, y :: t, h0, h => by
    have e := h0 0 (by simp)
    simp at e
    refine Or.inr ⟨e, sLt_pre (fun k hk => ?_) (by simpa using h)⟩
    have := h0 (k + 1) (by simpa using hk)
    simpa using this
section S
variable {V : HEn} {G : Gh} {o d o' d' nx : Nat} {l l' : List Nat} {st st' : Prop}
theorem mm_loop {f f' : Nat → Int32} {m : Nat} (h2 : G d = some (.inl (V.2.1 1, l.length, .inl f))) (h3 : ∀ i (h : i < l.length), f i = bt l[i]) (h4 : ∀ c ∈ l, c < 256) (k2 : G d' = some (.inl (V.2.1 1, l'.length, .inl f'))) (k3 : ∀ i (h : i < l'.length), f' i = bt l'[i]) (k4 : ∀ c ∈ l', c < 256) (hl : l.length ≤ 1000) (hl' : l'.length ≤ 1000) (hm : m ≤ l.length) (hm' : m ≤ l'.length) : ∀ (k fu i nx : Nat), i + k = m → k + 1 ≤ fu → (∀ t, t < i → l[t]? = l'[t]?) →
    ∃ r, hL_J9_mismatch_49 V fu G nx (some d) (some d') (nI m) (nI i) = some (r, G, 0, 0) ∧ ((r = -1 ∧ ∀ t, t < m → l[t]? = l'[t]?) ∨ (∃ j, ∃ (p : j < l.length) (p' : j < l'.length), r = nI j ∧ j < m ∧ l[j] ≠ l'[j] ∧ ∀ t, t < j → l[t]? = l'[t]?)) := by
  intro k
  induction k with
  | zero =>
    intro fu i nx hi hf he
    obtain ⟨fu, rfl⟩ := Nat.exists_eq_succ_of_ne_zero (show fu ≠ 0 by omega)
    refine ⟨-1, ?_, Or.inl ⟨rfl, fun t ht => he t (by omega)⟩⟩
    rw [hL_J9_mismatch_49, if_pos ((nI_leq (by omega) (by omega)).mpr (by omega))]
  | succ k ih =>
    intro fu i nx hi hf he
    obtain ⟨fu, rfl⟩ := Nat.exists_eq_succ_of_ne_zero (show fu ≠ 0 by omega)
    have hi1 : i < l.length := by omega
    have hi2 : i < l'.length := by omega
    rw [hL_J9_mismatch_49, if_neg (fun z => by have := (nI_leq (by omega) (by omega)).mp z; omega)]
    show ∃ r, ((rdI G (V.2.1 1) d (nI i)).bind _) = _ ∧ _
    rw [rdI_at h2 (gd_nI hi1 (by omega))]
    show ∃ r, ((rdI G (V.2.1 1) d' (nI i)).bind _) = _ ∧ _
    rw [rdI_at k2 (gd_nI hi2 (by omega)), h3 i hi1, k3 i hi2]
    show ∃ r, (if bt l[i] = bt l'[i] then hL_J9_mismatch_49 V fu G nx (some d) (some d') (nI m) (nI i + 1) else some (nI i, G, 0, 0)) = _ ∧ _
    by_cases c : l[i] = l'[i]
    · rw [if_pos (by rw [c]), nI_1]
      refine ih fu (i + 1) nx (by omega) (by omega) (fun t ht => ?_)
      by_cases ct : t = i
      · subst ct; simp [hi1, hi2, c]
      · exact he t (by omega)
    · rw [if_neg (fun z => c (bt_inj (h4 _ (List.getElem_mem hi1)) (k4 _ (List.getElem_mem hi2)) z))]
      exact ⟨nI i, rfl, Or.inr ⟨i, hi1, hi2, rfl, by omega, c, he⟩⟩
theorem getChar_at {f : Nat → Int32} {j : Nat} (h2 : G d = some (.inl (V.2.1 1, l.length, .inl f))) (h3 : ∀ i (h : i < l.length), f i = bt l[i]) (h4 : ∀ c ∈ l, c < 256) (hl : l.length ≤ 1000) (hj : j < l.length) : hF_J12_getChar V G nx (some d) (nI j) = some (nI l[j], G, 0, 0) := by
  have hc := h4 l[j] (List.getElem_mem hj)
  have hk : ∀ c, c < 256 → (((nI c).toUInt32 % 65536).toInt32) = nI c ∧ vp_nar .char (nI c) = nI c := by decide +kernel
  obtain ⟨k1, k2⟩ := hk _ hc
  unfold hF_J12_getChar
  show ((rdI G (V.2.1 1) d (nI j)).bind _) = _
  rw [rdI_at h2 (gd_nI hj (by omega)), h3 j hj]
  show (if _ then _ else _) = _
  rw [bt_and _ hc, k1, k2, if_pos rfl]
/-- compareTo tells the order -/
def CmpOk (l l' : List Nat) (r : Int32) : Prop := (l = l' → r = 0) ∧ (sLt l l' → r < 0) ∧ (sLt l' l → 0 < r)
theorem CmpOk.of {r : Int32} (h : (r = 0 ∧ l = l') ∨ (r < 0 ∧ sLt l l') ∨ (0 < r ∧ sLt l' l)) : CmpOk l l' r := by
  have asym : sLt l l' → sLt l' l → False := fun a b => sLt_irrefl _ (sLt_trans a b)
  rcases h with ⟨h1, h2⟩ | ⟨h1, h2⟩ | ⟨h1, h2⟩
  · exact ⟨fun _ => h1, fun z => absurd z (by rw [h2]; exact sLt_irrefl _), fun z => absurd z (by rw [h2]; exact sLt_irrefl _)⟩
  · exact ⟨fun z => absurd h2 (by rw [z]; exact sLt_irrefl _), fun _ => h1, fun z => (asym h2 z).elim⟩
  · exact ⟨fun z => absurd h2 (by rw [z]; exact sLt_irrefl _), fun z => (asym z h2).elim, fun _ => h1⟩
theorem sub_neg {a b : Nat} (ha : a < 2 ^ 30) (hb : b < 2 ^ 30) : (nI a - nI b < 0 ↔ a < b) ∧ (0 < nI a - nI b ↔ b < a) ∧ (nI a - nI b = 0 ↔ a = b) := by
  have e := sub_int ha hb
  refine ⟨?_, ?_, ?_⟩
  · rw [Int32.lt_iff_toInt_lt, e]; show (a : Int) - b < 0 ↔ _; omega
  · rw [Int32.lt_iff_toInt_lt, e]; show 0 < (a : Int) - b ↔ _; omega
  · constructor
    · intro z
      rw [z] at e
      have : (0 : Int) = (a : Int) - b := e
      omega
    · rintro rfl; exact Int32.sub_self _
theorem str_compare (hV : 1200 ≤ V.2.2.2.2) (h : Str V G o d l st) (k : Str V G o' d' l' st') : ∃ r, hF_J7_compareTo V G nx o (some o') = some (r, G, 0, 0) ∧ CmpOk l l' r := by
  have h0 := h
  have k0 := k
  obtain ⟨f, x, z, h1, h2, h3, h4, h5, h6, h7⟩ := h
  obtain ⟨f', x', z', k1, k2, k3, k4, k5, k6, k7⟩ := k
  have hmin : (if nI l'.length < nI l.length then nI l'.length else nI l.length) = nI (min l.length l'.length) := by
    by_cases c : l'.length < l.length
    · rw [if_pos (nI_lt c (by omega))]; congr 1; omega
    · rw [if_neg (nI_nlt (by omega) (by omega))]; congr 1; omega
  have hw : wH (hF_J7_compareTo V G nx o (some o')) (fun r G' c s => G' = G ∧ c = 0 ∧ s = 0 ∧ CmpOk l l' r) := by
    unfold hF_J7_compareTo hF_J7_compareTo_2 hF_J12_compareTo hF_J12_compareTo_2 hB_J12_compareTo_2_40
    refine w_pos (gok_at k1 (by simp)) (w_pos h0.gC ?_)
    apply w_cB
    refine w_xR h1 rfl rfl (w_some (w_xR k1 rfl rfl (w_pos h0.gC (w_call0 (str_coder h0) (w_pos k0.gC (w_call0 (str_coder k0) (w_pos rfl (w_pos rfl ?_))))))))
    apply w_cB
    refine w_some (w_aln h2 (w_some (w_aln k2 ?_)))
    apply w_cB
    rw [hmin]
    obtain ⟨r, e, q⟩ := mm_loop (m := min l.length l'.length) h2 h3 h4 k2 k3 k4 h6 k6 (by omega) (by omega) (min l.length l'.length) V.2.2.2.2 0 (nx + 0 + 0) (by omega) (by omega) (fun t ht => absurd ht (Nat.not_lt_zero _))
    refine w_call0 (r := r) (G := G) ?_ ?_
    · unfold hF_J9_mismatch
      show ((aln G (V.2.1 1) d).bind _) = _
      rw [aln_at h2]
      show ((aln G (V.2.1 1) d').bind _) = _
      rw [aln_at k2]
      show (if _ then _ else _) = _
      rw [if_pos ⟨(nI_leq (by omega) (by omega)).mpr (by omega), (nI_leq (by omega) (by omega)).mpr (by omega)⟩]
      exact e
    · rcases q with ⟨rfl, q⟩ | ⟨j, p, p', rfl, q1, q2, q3⟩
      · refine w_neg (by decide) (w_ret (w_ret (w_ret (w_ret ⟨rfl, rfl, rfl, CmpOk.of ?_⟩))))
        obtain ⟨s1, s2, s3⟩ := sub_neg (a := l.length) (b := l'.length) (by omega) (by omega)
        rcases Nat.lt_trichotomy l.length l'.length with c | c | c
        · exact Or.inr (Or.inl ⟨s1.mpr c, sLt_pre (fun t ht => q t (by omega)) c⟩)
        · refine Or.inl ⟨s3.mpr c, List.ext_getElem? (fun t => ?_)⟩
          by_cases ct : t < l.length
          · exact q t (by omega)
          · rw [List.getElem?_eq_none (by omega), List.getElem?_eq_none (by omega)]
        · exact Or.inr (Or.inr ⟨s2.mpr c, sLt_pre (fun t ht => (q t (by omega)).symm) c⟩)
      · refine w_pos (nI_pos' (by omega)) (w_call0 (getChar_at h2 h3 h4 h6 p) (w_call0 (getChar_at k2 k3 k4 k6 p') (w_ret (w_ret (w_ret (w_ret ⟨rfl, rfl, rfl, CmpOk.of ?_⟩))))))
        have c1 := h4 _ (List.getElem_mem p)
        have c2 := k4 _ (List.getElem_mem p')
        obtain ⟨s1, s2, s3⟩ := sub_neg (a := l[j]) (b := l'[j]) (by omega) (by omega)
        have g1 : l[j]? = some l[j] := List.getElem?_eq_getElem p
        have g2 : l'[j]? = some l'[j] := List.getElem?_eq_getElem p'
        rcases Nat.lt_trichotomy l[j] l'[j] with c | c | c
        · exact Or.inr (Or.inl ⟨s1.mpr c, sLt_at q3 g1 g2 c⟩)
        · exact absurd c q2
        · exact Or.inr (Or.inr ⟨s2.mpr c, sLt_at (fun t ht => (q3 t ht).symm) g2 g1 c⟩)
  obtain ⟨r, G', c, s, e, rfl, rfl, rfl, q⟩ := hw
  exact ⟨r, e, q⟩
end S

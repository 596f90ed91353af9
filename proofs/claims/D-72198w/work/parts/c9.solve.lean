/-! PURE 86: RunWatch.solves -/
/-- a table of longs in the heap -/
def GMx (V : HEn) (G : Gh) (N0 ra n : Nat) (ad : Nat → Nat) (M : Mx) : Prop := (∃ r, G ra = some (.inl (V.2.1 7, n, .inr (.inr (.inr (.inr r))))) ∧ ∀ i, i < n → r i = some (ad i)) ∧ (∀ i, i < n → ∃ f, G (ad i) = some (.inl (V.2.1 2, n + 1, .inr (.inl f))) ∧ ∀ j, j ≤ n → f j = lN (M i j)) ∧ (∀ i, i < n → ∀ i', i' < n → ad i = ad i' → i = i') ∧ (∀ i, i < n → N0 ≤ ad i ∧ ad i ≠ ra) ∧ N0 ≤ ra ∧ V.1 ≤ N0 ∧ ∀ i, i < n → ∀ j, j ≤ n → M i j < PP
section X
variable {V : HEn} {N0 ra n : Nat} {ad : Nat → Nat} {M M' : Mx}
theorem GMx.congr {G : Gh} (h : GMx V G N0 ra n ad M) (he : ∀ i, i < n → ∀ j, j ≤ n → M i j = M' i j) : GMx V G N0 ra n ad M' := by
  obtain ⟨h1, h2, h3, h4, h5, h6, h7⟩ := h
  refine ⟨h1, fun i hi => ?_, h3, h4, h5, h6, fun i hi j hj => by rw [← he i hi j hj]; exact h7 i hi j hj⟩
  obtain ⟨f, f1, f2⟩ := h2 i hi
  exact ⟨f, f1, fun j hj => by rw [f2 j hj, he i hi j hj]⟩
/-- one place of it is written -/
theorem GMx.set {G : Gh} {i j v : Nat} {f : Nat → Int64} (h : GMx V G N0 ra n ad M) (hi : i < n) (hf : G (ad i) = some (.inl (V.2.1 2, n + 1, .inr (.inl f)))) (hv : v < PP) (hM : ∀ i', i' < n → ∀ j', j' ≤ n → M' i' j' = if i' = i ∧ j' = j then v else M i' j') : GMx V (gset G (ad i) (.inl (V.2.1 2, n + 1, .inr (.inl (vp_updL f j (lN v)))))) N0 ra n ad M' := by
  obtain ⟨⟨r, r1, r2⟩, h2, h3, h4, h5, h6, h7⟩ := h
  refine ⟨⟨r, by rw [gset_ne _ _ (Ne.symm (h4 i hi).2)]; exact r1, r2⟩, fun i' hi' => ?_, h3, h4, h5, h6, fun i' hi' j' hj' => ?_⟩
  · by_cases c : i' = i
    · subst c
      refine ⟨_, gset_eq _ _ _, fun j' hj' => ?_⟩
      rw [hM i' hi' j' hj']
      obtain ⟨f2, f3, f4⟩ := h2 i' hi'
      rw [hf] at f3
      cases f3
      by_cases c2 : j' = j
      · rw [c2, pk_uLs, if_pos ⟨rfl, rfl⟩]
      · rw [pk_uLn c2, if_neg (fun z => c2 z.2)]; exact f4 j' hj'
    · obtain ⟨f2, f3, f4⟩ := h2 i' hi'
      refine ⟨f2, by rw [gset_ne _ _ (fun e => c (h3 i' hi' i hi e))]; exact f3, fun j' hj' => ?_⟩
      rw [hM i' hi' j' hj', if_neg (fun z => c z.1)]; exact f4 j' hj'
  · rw [hM i' hi' j' hj']
    split
    · exact hv
    · exact h7 i' hi' j' hj'
variable {k5 : Gh → Nat → Option Nat → Int32 → Int32 → HO Int32} {k nx : Nat} {Q : Int32 → Gh → Nat → Nat → Prop}
/-- what is left of row i behind j places -/
def elP (M : Mx) (i k t j : Nat) : Mx := fun i' j' => if i' = i ∧ j' < j then (M i j' + (PP - t) * M k j') % PP else M i' j'
theorem el_cols {k103 : Gh → Nat → Option Nat → Int32 → Int32 → Option Nat → Int32 → HO Int32} {i t : Nat} (hn : n ≤ 100) (hk : k < n) (hi : i < n) (hik : i ≠ k) (ht : t < PP) (ht0 : t ≠ 0) (hMlt : ∀ i, i < n → ∀ j, j ≤ n → M i j < PP) : ∀ (c j m : Nat) (G : Gh), j + c = n + 1 → c + 1 ≤ m → GMx V G N0 ra n ad (elP M i k t j) → (∀ G', GMx V G' N0 ra n ad (elP M i k t (n + 1)) → (∀ b, b < N0 → G' b = G b) → wH (k103 G' nx (some ra) (nI n) (nI k) (some (ad k)) (nI (i + 1))) Q) →
    wH (hL_X0_solves_130 V k5 k103 m G nx (some ra) (nI n) (nI k) (some (ad k)) (nI i) (lN t) (nI j)) Q := by
  intro c
  induction c with
  | zero =>
    intro j m G hj hm hG K
    obtain ⟨m, rfl⟩ := Nat.exists_eq_succ_of_ne_zero (show m ≠ 0 by omega)
    have : j = n + 1 := by omega
    subst this
    rw [hL_X0_solves_130]
    unfold hB_X0_solves_184
    rw [nI_1]
    exact w_pos (nI_lt (by omega) (by omega)) (K G hG (fun _ _ => rfl))
  | succ c ih =>
    intro j m G hj hm hG K
    obtain ⟨m, rfl⟩ := Nat.exists_eq_succ_of_ne_zero (show m ≠ 0 by omega)
    have hG0 := hG
    obtain ⟨⟨r, r1, r2⟩, h2, h3, h4, h5, h6, h7⟩ := hG
    obtain ⟨f, f1, f2⟩ := h2 i hi
    obtain ⟨g, g1, g2⟩ := h2 k hk
    have hP : PP < 2 ^ 20 := by decide
    have eM : elP M i k t j i j = M i j := if_neg (fun z => by omega)
    have eK : elP M i k t j k j = M k j := if_neg (fun z => hik z.1.symm)
    rw [hL_X0_solves_130]
    refine w_neg (nI_nlt (by omega) (by omega)) (w_neg (fun z => ht0 ((lN0 (by omega)).mp ((lg_cmp_eq _ _).mp z))) ?_)
    refine w_some (w_rdR r1 (gd_nI hi (by omega)) (w_rdR r1 (gd_nI hi (by omega)) ?_))
    rw [r2 i hi]
    refine w_some (w_rdJ f1 (gd_nI (show j < n + 1 by omega) (by omega)) (w_some (w_rdJ g1 (gd_nI (show j < n + 1 by omega) (by omega)) (w_some (w_wrJ f1 (by have := (h4 i hi).1; omega) (gd_nI (show j < n + 1 by omega) (by omega)) ?_)))))
    rw [f2 j (by omega), g2 j (by omega), eM, eK, rem_neg (hMlt i hi j (by omega)) ht (hMlt k hk j (by omega)), nI_1]
    refine ih (j + 1) m _ (by omega) (by omega) (hG0.set hi f1 (Nat.mod_lt _ (by decide)) (fun i' hi' j' hj' => ?_)) (fun G' k1 k2 => K G' k1 (fun b hb => by rw [k2 b hb, gset_ne _ _ (by have := (h4 i hi).1; omega)]))
    show (if i' = i ∧ j' < j + 1 then _ else _) = _
    by_cases c1 : i' = i ∧ j' = j
    · rw [if_pos c1, if_pos ⟨c1.1, by omega⟩, c1.2]
    · rw [if_neg c1]
      show _ = (if i' = i ∧ j' < j then _ else _)
      by_cases c2 : i' = i ∧ j' < j
      · rw [if_pos ⟨c2.1, by omega⟩, if_pos c2]
      · rw [if_neg (fun z => by omega), if_neg c2]
/-- the rows below i are done -/
def elI (M : Mx) (k i : Nat) : Mx := fun i' j => if i' < i then elR M k i' j else M i' j
theorem el_rows (hV : 1200 ≤ V.2.2.2.2) (hn : n ≤ 100) (hk : k < n) (hMlt : ∀ i, i < n → ∀ j, j ≤ n → M i j < PP) : ∀ (c i m : Nat) (G : Gh), i + c = n → c + 1 ≤ m → GMx V G N0 ra n ad (elI M k i) → (∀ G', GMx V G' N0 ra n ad (elR M k) → (∀ b, b < N0 → G' b = G b) → wH (k5 G' nx (some ra) (nI n) (nI (k + 1))) Q) →
    wH (hL_X0_solves_103 V k5 m G nx (some ra) (nI n) (nI k) (some (ad k)) (nI i)) Q := by
  intro c
  induction c with
  | zero =>
    intro i m G hi hm hG K
    obtain ⟨m, rfl⟩ := Nat.exists_eq_succ_of_ne_zero (show m ≠ 0 by omega)
    have : i = n := by omega
    subst this
    rw [hL_X0_solves_103]
    refine w_pos (Int32.le_refl _) ?_
    rw [nI_1]
    exact K G (hG.congr (fun i' hi' j' hj' => if_pos hi')) (fun _ _ => rfl)
  | succ c ih =>
    intro i m G hi hm hG K
    obtain ⟨m, rfl⟩ := Nat.exists_eq_succ_of_ne_zero (show m ≠ 0 by omega)
    have hin : i < n := by omega
    rw [hL_X0_solves_103]
    refine w_neg (fun z => by have := (nI_leq (by omega) (by omega)).mp z; omega) ?_
    unfold hB_X0_solves_125
    by_cases ck : i = k
    · refine w_pos (by rw [ck]) ?_
      obtain ⟨q, hq⟩ := Nat.exists_eq_succ_of_ne_zero (show V.2.2.2.2 ≠ 0 by omega)
      rw [hq, hL_X0_solves_130]
      unfold hB_X0_solves_184
      rw [nI_1]
      refine w_neg (nI_nlt (b := 0) (Nat.zero_le _) (by omega)) (w_pos (by decide) ?_)
      refine ih (i + 1) m G (by omega) (by omega) (hG.congr (fun i' hi' j' hj' => ?_)) K
      show (if i' < i then _ else _) = (if i' < i + 1 then _ else _)
      by_cases c1 : i' < i
      · rw [if_pos c1, if_pos (by omega)]
      · rw [if_neg c1]
        by_cases c2 : i' = i
        · rw [if_pos (by omega)]
          show _ = (if i' = k then _ else _)
          rw [if_pos (by omega)]
        · rw [if_neg (by omega)]
    · obtain ⟨⟨r, r1, r2⟩, h2, h3, h4, h5, h6, h7⟩ := id hG
      obtain ⟨f, f1, f2⟩ := h2 i hin
      refine w_neg (fun z => ck ((nI_eq (by omega) (by omega)).mp z)) (w_some (w_rdR r1 (gd_nI hin (by omega)) ?_))
      rw [r2 i hin]
      refine w_some (w_rdJ f1 (gd_nI (show k < n + 1 by omega) (by omega)) ?_)
      have eI : elI M k i i k = M i k := if_neg (Nat.lt_irrefl _)
      rw [f2 k (by omega), eI]
      -- the row is done
      have done : ∀ G', GMx V G' N0 ra n ad (elI M k (i + 1)) → (∀ b, b < N0 → G' b = G b) → wH (hL_X0_solves_103 V k5 m G' nx (some ra) (nI n) (nI k) (some (ad k)) (nI (i + 1))) Q := fun G' k1 k2 => ih (i + 1) m G' (by omega) (by omega) k1 (fun G2 y1 y2 => K G2 y1 (fun b hb => by rw [y2 b hb, k2 b hb]))
      by_cases ct : M i k = 0
      · rw [ct]
        obtain ⟨q, hq⟩ := Nat.exists_eq_succ_of_ne_zero (show V.2.2.2.2 ≠ 0 by omega)
        rw [hq, hL_X0_solves_130]
        unfold hB_X0_solves_184
        rw [nI_1]
        refine w_neg (nI_nlt (b := 0) (Nat.zero_le _) (by omega)) (w_pos (by decide) (done G (hG.congr (fun i' hi' j' hj' => ?_)) (fun _ _ => rfl)))
        show (if i' < i then _ else _) = (if i' < i + 1 then _ else _)
        by_cases c1 : i' < i
        · rw [if_pos c1, if_pos (by omega)]
        · rw [if_neg c1]
          by_cases c2 : i' = i
          · rw [if_pos (by omega)]
            subst c2
            show _ = (if i' = k then _ else _)
            rw [if_neg ck, ct, Nat.sub_zero, Nat.add_mul_mod_self_left, Nat.mod_eq_of_lt (hMlt i' hi' j' hj')]
          · rw [if_neg (by omega)]
      · have e0 : ∀ i', i' < n → ∀ j', j' ≤ n → elI M k i i' j' = elP (elI M k i) i k (M i k) 0 i' j' := fun i' _ j' _ => (if_neg (fun z => by omega)).symm
        refine el_cols (M := elI M k i) (t := M i k) hn hk hin ck (hMlt i hin k (by omega)) ct h7 (n + 1) 0 V.2.2.2.2 G (by omega) (by omega) (hG.congr e0) (fun G' k1 k2 => done G' (k1.congr (fun i' hi' j' hj' => ?_)) k2)
        show (if i' = i ∧ j' < n + 1 then _ else _) = (if i' < i + 1 then _ else _)
        by_cases c2 : i' = i
        · subst c2
          rw [if_pos ⟨rfl, by omega⟩, if_pos (by omega)]
          have e1 : elI M k i' i' j' = M i' j' := if_neg (Nat.lt_irrefl _)
          have e2 : elI M k i' k j' = M k j' := by
            show (if k < i' then elR M k k j' else M k j') = _
            split
            · exact if_pos rfl
            · rfl
          rw [e1, e2]
          show _ = (if i' = k then _ else _)
          rw [if_neg ck]
        · rw [if_neg (fun z => c2 z.1)]
          show (if i' < i then _ else _) = _
          by_cases c1 : i' < i
          · rw [if_pos c1, if_pos (by omega)]
          · rw [if_neg c1, if_neg (by omega)]
/-- j places of row k are multiplied -/
def scP (M : Mx) (k by_ j : Nat) : Mx := fun i j' => if i = k ∧ j' < j then M i j' * by_ % PP else M i j'
theorem sc_row {by_ : Nat} (hV : 1200 ≤ V.2.2.2.2) (hn : n ≤ 100) (hk : k < n) (hb : by_ < PP) (hMlt : ∀ i, i < n → ∀ j, j ≤ n → M i j < PP) : ∀ (c j m : Nat) (G : Gh), j + c = n + 1 → c + 1 ≤ m → GMx V G N0 ra n ad (scP M k by_ j) → (∀ G', GMx V G' N0 ra n ad (elR (scR M k by_) k) → (∀ b, b < N0 → G' b = G b) → wH (k5 G' nx (some ra) (nI n) (nI (k + 1))) Q) →
    wH (hL_X0_solves_71 V k5 m G nx (some ra) (nI n) (nI k) (some (ad k)) (lN by_) (nI j)) Q := by
  intro c
  induction c with
  | zero =>
    intro j m G hj hm hG K
    obtain ⟨m, rfl⟩ := Nat.exists_eq_succ_of_ne_zero (show m ≠ 0 by omega)
    have : j = n + 1 := by omega
    subst this
    rw [hL_X0_solves_71]
    refine w_pos (nI_lt (by omega) (by omega)) ?_
    have hG1 : GMx V G N0 ra n ad (scR M k by_) := hG.congr (fun i' hi' j' hj' => by
      show (if i' = k ∧ j' < n + 1 then _ else _) = (if i' = k then _ else _)
      by_cases c1 : i' = k
      · rw [if_pos ⟨c1, by omega⟩, if_pos c1]
      · rw [if_neg (fun z => c1 z.1), if_neg c1])
    have h7 := hG1.2.2.2.2.2.2
    exact el_rows hV hn hk h7 n 0 V.2.2.2.2 G (by omega) (by omega) (hG1.congr (fun i' _ j' _ => (if_neg (Nat.not_lt_zero _)).symm)) K
  | succ c ih =>
    intro j m G hj hm hG K
    obtain ⟨m, rfl⟩ := Nat.exists_eq_succ_of_ne_zero (show m ≠ 0 by omega)
    obtain ⟨⟨r, r1, r2⟩, h2, h3, h4, h5, h6, h7⟩ := id hG
    obtain ⟨f, f1, f2⟩ := h2 k hk
    have eM : scP M k by_ j k j = M k j := if_neg (fun z => by omega)
    rw [hL_X0_solves_71]
    refine w_neg (nI_nlt (by omega) (by omega)) (w_some (w_rdJ f1 (gd_nI (show j < n + 1 by omega) (by omega)) (w_wrJ f1 (by have := (h4 k hk).1; omega) (gd_nI (show j < n + 1 by omega) (by omega)) ?_)))
    rw [f2 j (by omega), eM, mulrem (hMlt k hk j (by omega)) hb, nI_1]
    refine ih (j + 1) m _ (by omega) (by omega) (hG.set hk f1 (Nat.mod_lt _ (by decide)) (fun i' hi' j' hj' => ?_)) (fun G' k1 k2 => K G' k1 (fun b hb => by rw [k2 b hb, gset_ne _ _ (by have := (h4 k hk).1; omega)]))
    show (if i' = k ∧ j' < j + 1 then _ else _) = _
    by_cases c1 : i' = k ∧ j' = j
    · rw [if_pos c1, if_pos ⟨c1.1, by omega⟩, c1.1, c1.2]
    · rw [if_neg c1]
      show _ = (if i' = k ∧ j' < j then _ else _)
      by_cases c2 : i' = k ∧ j' < j
      · rw [if_pos ⟨c2.1, by omega⟩, if_pos c2]
      · rw [if_neg (fun z => by omega), if_neg c2]
def swA (ad : Nat → Nat) (a k : Nat) : Nat → Nat := fun i => if i = a then ad k else if i = k then ad a else ad i
theorem sw_at {a : Nat} {G : Gh} (hV : 1200 ≤ V.2.2.2.2) (hn : n ≤ 100) (hk : k < n) (ha : a < n) (hG : GMx V G N0 ra n ad M) (K : ∀ G', GMx V G' N0 ra n (swA ad a k) (elR (scR (swR M a k) k (inv (M a k))) k) → (∀ b, b < N0 → G' b = G b) → wH (k5 G' nx (some ra) (nI n) (nI (k + 1))) Q) : wH (hB_X0_solves_33 V k5 G nx (some ra) (nI n) (nI k) (nI a)) Q := by
  obtain ⟨⟨r, r1, r2⟩, h2, h3, h4, h5, h6, h7⟩ := id hG
  obtain ⟨fa, fa1, fa2⟩ := h2 a ha
  obtain ⟨fk', fk1, fk2⟩ := h2 k hk
  unfold hB_X0_solves_33
  refine w_neg (fun z => by have := (nI_eq (by omega) (by omega)).mp z; omega) (w_some (w_rdR r1 (gd_nI ha (by omega)) (w_rdR r1 (gd_nI hk (by omega)) ?_)))
  rw [r2 a ha, r2 k hk]
  refine w_pos (gokA_arr (c := 102) fk1 (by simp) (by decide)) (w_wrR r1 (by omega) (gd_nI ha (by omega)) ?_)
  refine w_pos (gokA_arr (c := 102) (by rw [gset_ne _ _ (h4 a ha).2]; exact fa1) (by simp) (by decide)) (w_wrR (gset_eq _ _ _) (by omega) (gd_nI hk (by omega)) (w_some ?_))
  generalize hG2 : gset (gset G ra (.inl (V.2.1 7, n, .inr (.inr (.inr (.inr (va_up r a (some (ad k)))))))) ) ra (.inl (V.2.1 7, n, .inr (.inr (.inr (.inr (va_up (va_up r a (some (ad k))) k (some (ad a)))))))) = G2
  have k2 : ∀ b, b ≠ ra → G2 b = G b := fun b hb => by rw [← hG2, gset_ne _ _ hb, gset_ne _ _ hb]
  have hr2 : G2 ra = some (.inl (V.2.1 7, n, .inr (.inr (.inr (.inr (va_up (va_up r a (some (ad k))) k (some (ad a)))))))) := by rw [← hG2]; exact gset_eq _ _ _
  clear hG2
  refine w_rdJ (by rw [k2 _ (h4 a ha).2]; exact fa1) (gd_nI (show k < n + 1 by omega) (by omega)) ?_
  rw [fa2 k (by omega)]
  have hlt := h7 a ha k (by omega)
  have e1 : (1000001 : Int64) = lN 1000001 := rfl
  unfold hF_X0_power
  refine w_call0 (power_at 21 V.2.2.2.2 nx 1 (M a k) 1000001 (by decide) (by omega) (by decide) hlt (by omega)) ?_
  have hA : GMx V G2 N0 ra n (swA ad a k) (swR M a k) := by
    have inj : ∀ i, i < n → ∀ i', i' < n → swA ad a k i = swA ad a k i' → i = i' := fun i hi i' hi' e => by
      unfold swA at e
      by_cases c1 : i = a
      · by_cases c2 : i' = a
        · omega
        · rw [if_pos c1, if_neg c2] at e
          by_cases c3 : i' = k
          · rw [if_pos c3] at e; have := h3 _ hk _ ha e; omega
          · rw [if_neg c3] at e; have := h3 _ hk _ hi' e; omega
      · rw [if_neg c1] at e
        by_cases c2 : i' = a
        · rw [if_pos c2] at e
          by_cases c3 : i = k
          · rw [if_pos c3] at e; have := h3 _ ha _ hk e; omega
          · rw [if_neg c3] at e; have := h3 _ hi _ hk e; omega
        · rw [if_neg c2] at e
          by_cases c3 : i = k
          · by_cases c4 : i' = k
            · omega
            · rw [if_pos c3, if_neg c4] at e; have := h3 _ ha _ hi' e; omega
          · rw [if_neg c3] at e
            by_cases c4 : i' = k
            · rw [if_pos c4] at e; have := h3 _ hi _ ha e; omega
            · rw [if_neg c4] at e; exact h3 _ hi _ hi' e
    refine ⟨⟨_, hr2, fun i hi => ?_⟩, fun i hi => ?_, inj, fun i hi => ?_, h5, h6, fun i hi j hj => ?_⟩
    · unfold va_up swA
      by_cases c1 : i = k
      · rw [if_pos c1]
        by_cases c2 : i = a
        · rw [if_pos c2, ← c1, ← c2]
        · rw [if_neg c2, if_pos c1]
      · rw [if_neg c1]
        by_cases c2 : i = a
        · rw [if_pos c2, if_pos c2]
        · rw [if_neg c2, if_neg c2, if_neg c1]; exact r2 i hi
    · unfold swA swR
      by_cases c2 : i = a
      · rw [if_pos c2, if_pos c2]; exact ⟨fk', by rw [k2 _ (h4 k hk).2]; exact fk1, fk2⟩
      · rw [if_neg c2, if_neg c2]
        by_cases c1 : i = k
        · rw [if_pos c1, if_pos c1]; exact ⟨fa, by rw [k2 _ (h4 a ha).2]; exact fa1, fa2⟩
        · rw [if_neg c1, if_neg c1]
          obtain ⟨f, g1, g2⟩ := h2 i hi
          exact ⟨f, by rw [k2 _ (h4 i hi).2]; exact g1, g2⟩
    · unfold swA
      by_cases c2 : i = a
      · rw [if_pos c2]; exact h4 k hk
      · rw [if_neg c2]
        by_cases c1 : i = k
        · rw [if_pos c1]; exact h4 a ha
        · rw [if_neg c1]; exact h4 i hi
    · unfold swR
      by_cases c2 : i = a
      · rw [if_pos c2]; exact h7 k hk j hj
      · rw [if_neg c2]
        by_cases c1 : i = k
        · rw [if_pos c1]; exact h7 a ha j hj
        · rw [if_neg c1]; exact h7 i hi j hj
  have eak : swA ad a k k = ad a := by
    unfold swA
    by_cases c : k = a
    · rw [if_pos c, c]
    · rw [if_neg c, if_pos rfl]
  have := sc_row (by_ := inv (M a k)) hV hn hk (pwF_lt _ _ _ _ (by decide)) hA.2.2.2.2.2.2 (n + 1) 0 V.2.2.2.2 G2 (by omega) (by omega) (hA.congr (fun i' _ j' _ => (if_neg (fun z => by omega)).symm)) (fun G' y1 y2 => K G' y1 (fun b hb => by rw [y2 b hb, k2 b (by omega)]))
  rw [eak] at this
  exact this
theorem fd_at {G : Gh} (hV : 1200 ≤ V.2.2.2.2) (hn : n ≤ 100) (hk : k < n) (hG : GMx V G N0 ra n ad M) (K0 : fnd M n k = none → wH (some ((0 : Int32), G, 0, 0)) Q) (K : ∀ a G', fnd M n k = some a → GMx V G' N0 ra n (swA ad a k) (elR (scR (swR M a k) k (inv (M a k))) k) → (∀ b, b < N0 → G' b = G b) → wH (k5 G' nx (some ra) (nI n) (nI (k + 1))) Q) : ∀ (c a m : Nat), a + c = n → c + 1 ≤ m → k ≤ a → (∀ i, k ≤ i → i < a → M i k = 0) → wH (hL_X0_solves_12 V k5 m G nx (some ra) (nI n) (nI k) (nI a)) Q := by
  obtain ⟨⟨r, r1, r2⟩, h2, h3, h4, h5, h6, h7⟩ := id hG
  intro c
  induction c with
  | zero =>
    intro a m ha hm hka hz
    obtain ⟨m, rfl⟩ := Nat.exists_eq_succ_of_ne_zero (show m ≠ 0 by omega)
    have : a = n := by omega
    subst this
    rw [hL_X0_solves_12]
    unfold hB_X0_solves_33
    refine w_pos (Int32.le_refl _) (w_pos rfl (K0 ?_))
    cases e : fnd M a k with
    | none => rfl
    | some b =>
      obtain ⟨b1, b2, b3, -⟩ := fnd_some e
      exact absurd (hz b b1 b2) b3
  | succ c ih =>
    intro a m ha hm hka hz
    obtain ⟨m, rfl⟩ := Nat.exists_eq_succ_of_ne_zero (show m ≠ 0 by omega)
    have han : a < n := by omega
    obtain ⟨f, f1, f2⟩ := h2 a han
    have hP : PP < 2 ^ 20 := by decide
    have hlt := h7 a han k (by omega)
    rw [hL_X0_solves_12]
    refine w_neg (fun z => by have := (nI_leq (by omega) (by omega)).mp z; omega) (w_some (w_rdR r1 (gd_nI han (by omega)) ?_))
    rw [r2 a han]
    refine w_some (w_rdJ f1 (gd_nI (show k < n + 1 by omega) (by omega)) ?_)
    rw [f2 k (by omega)]
    by_cases c0 : M a k = 0
    · refine w_pos ((lg_cmp_eq _ _).mpr ((lN0 (by omega)).mpr c0)) ?_
      rw [nI_1]
      refine ih (a + 1) m (by omega) (by omega) (by omega) (fun i h1 h2 => ?_)
      by_cases ci : i = a
      · rw [ci]; exact c0
      · exact hz i h1 (by omega)
    · refine w_neg (fun z => c0 ((lN0 (by omega)).mp ((lg_cmp_eq _ _).mp z))) ?_
      exact sw_at hV hn hk han hG (fun G' y1 y2 => K a G' (fnd_mk hka han c0 hz) y1 y2)
theorem solve_loop (hV : 1200 ≤ V.2.2.2.2) (hn : n ≤ 100) : ∀ (c k m : Nat) (G : Gh) (ad : Nat → Nat) (M : Mx), k + c = n → c + 1 ≤ m → GMx V G N0 ra n ad M → wH (hL_X0_solves_5 V m G nx (some ra) (nI n) (nI k)) (fun r G' c' s => c' = 0 ∧ s = 0 ∧ (∀ b, b < N0 → G' b = G b) ∧ ((r = 0 ∧ gsL n c k M = none) ∨ (r = 1 ∧ ∃ ad' M', gsL n c k M = some M' ∧ GMx V G' N0 ra n ad' M'))) := by
  intro c
  induction c with
  | zero =>
    intro k m G ad M hk hm hG
    obtain ⟨m, rfl⟩ := Nat.exists_eq_succ_of_ne_zero (show m ≠ 0 by omega)
    have : k = n := by omega
    subst this
    rw [hL_X0_solves_5]
    exact w_pos (Int32.le_refl _) (w_ret ⟨rfl, rfl, fun _ _ => rfl, Or.inr ⟨rfl, ad, M, rfl, hG⟩⟩)
  | succ c ih =>
    intro k m G ad M hk hm hG
    obtain ⟨m, rfl⟩ := Nat.exists_eq_succ_of_ne_zero (show m ≠ 0 by omega)
    rw [hL_X0_solves_5]
    refine w_neg (fun z => by have := (nI_leq (by omega) (by omega)).mp z; omega) ?_
    refine fd_at hV hn (show k < n by omega) hG (fun e => w_ret ⟨rfl, rfl, fun _ _ => rfl, Or.inl ⟨rfl, ?_⟩⟩) (fun a G' e y1 y2 => ?_) (n - k) k V.2.2.2.2 (by omega) (by omega) (Nat.le_refl _) (fun i h1 h2 => by omega)
    · refine w_mono (ih (k + 1) m G' _ _ (by omega) (by omega) y1) ?_
      rintro r G2 c' s ⟨q1, q2, q3, q4⟩
      refine ⟨q1, q2, fun b hb => by rw [q3 b hb, y2 b hb], ?_⟩
      have eg : gsL n (c + 1) k M = gsL n c (k + 1) (elR (scR (swR M a k) k (inv (M a k))) k) := by rw [gsL]; unfold gsK; rw [e]
      rw [eg]
      exact q4
    · rw [gsL]; unfold gsK; rw [e]
end X

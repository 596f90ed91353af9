/-! PURE 70: RunWatch.notes -/
theorem dsk_app {d0 : Nat} {k0 : Dk} {pl : List (Nat × Dk)} {i0 i1 : Option (Nat × Dk)} : dsk d0 k0 pl i0 i1 = ((d0, k0) :: pl) ++ (i0.toList ++ i1.toList) := by simp [dsk]
theorem dsk_snoc {d0 : Nat} {k0 : Dk} {pl : List (Nat × Dk)} {i0 i1 : Option (Nat × Dk)} {e : Nat × Dk} : dsk d0 k0 (pl ++ [e]) i0 i1 = ((d0, k0) :: pl) ++ e :: (i0.toList ++ i1.toList) := by simp [dsk]
theorem nd_ins {α : Type} {l1 l2 : List α} {x : α} (h : (l1 ++ l2).Nodup) (hx : x ∉ l1 ++ l2) : (l1 ++ x :: l2).Nodup := (List.perm_middle.nodup_iff).mpr (List.nodup_cons.mpr ⟨hx, h⟩)
section X
variable {V : HEn} {G : Gh} {nx xo d0 da ia ro rd tx : Nat} {tg : Nat → Nat} {st : Nat × Nat × Nat} {k0 : Dk} {pl : List (Nat × Dk)} {i0 i1 : Option (Nat × Dk)} {txt : List Nat} {U : Nat → Prop}
theorem Wc.dlt (h : Wc V G nx xo tg d0 da ia ro rd tx st k0 pl i0 i1 txt U) {e : Nat × Dk} (he : e ∈ dsk d0 k0 pl i0 i1) : e.1 < nx ∧ V.1 ≤ e.1 := by
  obtain ⟨po, to, q1, q2, q3, -⟩ := (h.2.2.2.2.2.2.2.2.1 e he).1
  have := h.1.1
  have := h.2.1 e.1 (by omega)
  omega
theorem Wc.fresh (h : Wc V G nx xo tg d0 da ia ro rd tx st k0 pl i0 i1 txt U) : nx ∉ (dsk d0 k0 pl i0 i1).map Prod.fst := fun w => by
  obtain ⟨e, e1, e2⟩ := List.mem_map.mp w
  have := h.dlt e1
  omega
/-- a desk is put behind those that are done -/
theorem note_33 (hV : 1200 ≤ V.2.2.2.2) (h : Wc V G nx xo tg d0 da ia ro rd tx st k0 pl i0 i1 txt U) (h5 : pl.length ≤ 5) : wH (hB_X0_notes_33 V xo G nx) (fun _ G' c s => c ≤ 47 ∧ s ≤ 269 ∧ ∃ tg' pl', (∀ a, a < nx → tg' a = tg a) ∧ Wc V G' (nx + c) xo tg' d0 da ia ro rd tx st k0 pl' i0 i1 txt U ∧ pl'.map Prod.snd = pl.map Prod.snd ++ [k0] ∧ (∀ a, tg a ≠ 0 → a ≠ xo → a ≠ da → tg a ≠ d0 → G' a = G a) ∧ (∀ a, a < V.1 → G' a = G a)) := by
  have he : (d0, k0) ∈ dsk d0 k0 pl i0 i1 := by simp [dsk]
  obtain ⟨fd, d1, d2, d3⟩ := h.2.2.2.1
  obtain ⟨c1, c2, c3⟩ := h.2.2.1
  have hdk := (h.2.2.2.2.2.2.2.2.1 _ he).1
  have hx0 : xo ≠ 0 := h.heads.1
  have hdxo := (h.heads.2.2.2.2.2.2.2.2.2.2.2.2 _ he).2.1
  have hfr := h.fresh
  have hdax := h.heads.2.2.2.2.2.2.2.2.1
  simp only at hdk hdxo
  unfold hB_X0_notes_33
  refine w_xR c1 rfl rfl (w_xI c1 rfl rfl (w_xR c1 rfl rfl (w_some (w_pos hdk.gC (w_call (copy_w (e := (d0, k0)) hV h he) ?_)))))
  rintro r G1 c s ⟨rfl, u1, u2, u3, tg1, u4, u5, u6, u7, u8⟩
  have hW1 := u5
  obtain ⟨fd1, y1, y2, y3⟩ := u5.2.2.2.1
  obtain ⟨fi1, w1, w2, w3, w4⟩ := u5.2.2.2.2.1
  obtain ⟨x1, x2, x3⟩ := u5.2.2.1
  obtain ⟨po, to, q1, -⟩ := id u6
  refine w_some (w_pos (gokA_at q1 (by simp) (by decide)) ?_)
  have dab : V.1 ≤ da := (h.2.1 da (by rw [d2]; exact hx0)).1
  refine w_wrR y1 dab (gd_nI (show pl.length < 6 by omega) (by omega)) ?_
  refine w_xI (by rw [gset_ne _ _ (Ne.symm hdax)]; exact x1) rfl rfl ?_
  rw [nI_1]
  refine w_xF (fs' := [va_rf (some d0), va_rf (some da), .int (nI (pl.length + 1)), va_rf (some ia), va_rf (some ro), .int (nI st.1), .int (nI st.2.1), .int (nI st.2.2), va_rf (some tx)]) (by rw [gset_ne _ _ (Ne.symm hdax)]; exact x1) rfl (Nat.le_of_ble_eq_true rfl) c3 rfl ?_
  have hdaia : da ≠ ia := h.2.2.2.2.2.1
  have hiax := h.heads.2.2.2.2.2.2.2.2.2.1
  have lo1 : ∀ a, tg a ≠ 0 → tg1 a = tg a := fun a ha => u4 a (h.2.1 a ha).2
  refine w_ret ⟨by omega, by omega, tg1, pl ++ [(nx, k0)], u4, hW1.setx (fd := va_up fd1 pl.length (some nx)) (fi := fi1) (fun b b1 b2 b3 => by rw [gset_ne _ _ b1, gset_ne _ _ b2]) ?_ (by rw [gset_ne _ _ hdax]; exact gset_eq _ _ _) (fun i hi => ?_) (by rw [gset_ne _ _ hiax, gset_ne _ _ (Ne.symm hdaia)]; exact w1) w3 w4 (fun e he' => ?_) ?_ (by simp; omega), by simp, fun a b1 b2 b3 b4 => ?_, fun a ha => ?_⟩
  · rw [List.length_append]; exact gset_eq _ _ _
  · unfold va_up
    by_cases ci : i = pl.length
    · subst ci; rw [if_pos rfl]; simp
    · have hi' : i < pl.length := by simp at hi; omega
      rw [if_neg ci, List.getElem_append_left hi']; exact y3 i hi'
  · rw [dsk_snoc] at he'
    rcases List.mem_append.mp he' with z | z
    · exact hW1.2.2.2.2.2.2.2.2.1 e (by rw [dsk_app]; exact List.mem_append.mpr (Or.inl z))
    · rcases List.mem_cons.mp z with y | y
      · rw [y]; exact ⟨u6, (h.2.2.2.2.2.2.2.2.1 _ he).2⟩
      · exact hW1.2.2.2.2.2.2.2.2.1 e (by rw [dsk_app]; exact List.mem_append.mpr (Or.inr y))
  · rw [dsk_snoc, List.map_append, List.map_cons]
    have hn := h.2.2.2.2.2.2.2.2.2.1
    rw [dsk_app, List.map_append] at hn hfr
    exact nd_ins hn hfr
  · rw [gset_ne _ _ b2, gset_ne _ _ b3]
    exact u7 a b1 b4
  · rw [gset_ne _ _ (by omega), gset_ne _ _ (by omega)]
    exact u8 a ha
theorem notes_c (hV : 1200 ≤ V.2.2.2.2) (h : Wc V G nx xo tg d0 da ia ro rd tx st k0 pl i0 i1 txt U) : wH (hF_X0_notes V G nx xo) (fun _ G' c s => c ≤ 47 ∧ s ≤ 269 ∧ ∃ tg' pl', (∀ a, a < nx → tg' a = tg a) ∧ Wc V G' (nx + c) xo tg' d0 da ia ro rd tx st k0 pl' i0 i1 txt U ∧ pl'.map Prod.snd = noteL (pl.map Prod.snd) k0 ∧ (∀ a, tg a ≠ 0 → a ≠ xo → a ≠ da → tg a ≠ d0 → G' a = G a) ∧ (∀ a, a < V.1 → G' a = G a)) := by
  obtain ⟨fd, d1, d2, d3⟩ := h.2.2.2.1
  obtain ⟨fi, w1, w2, w3, w4⟩ := h.2.2.2.2.1
  obtain ⟨c1, c2, c3⟩ := h.2.2.1
  have hl := h.2.2.2.2.2.2.2.2.2.2
  have hx0 : xo ≠ 0 := h.heads.1
  have hdax := h.heads.2.2.2.2.2.2.2.2.1
  have hiax := h.heads.2.2.2.2.2.2.2.2.2.1
  have hdaia : da ≠ ia := h.2.2.2.2.2.1
  unfold hF_X0_notes
  refine w_xI c1 rfl rfl ?_
  by_cases c : pl.length = 6
  · have dab : V.1 ≤ da := (h.2.1 da (by rw [d2]; exact hx0)).1
    refine w_pos (by rw [c]; rfl) (w_xR c1 rfl rfl (w_xR c1 rfl rfl (w_some (w_some ?_))))
    refine w_bind (cpR_dn d1 dab (fun i hi => ?_)) ?_
    · rw [d3 (1 + i) (by omega)]
      have hm : pl[1 + i] ∈ dsk d0 k0 pl i0 i1 := by
        rw [dsk_app]
        exact List.mem_append.mpr (Or.inl (List.mem_cons.mpr (Or.inr (List.getElem_mem _))))
      obtain ⟨po, to, q1, -⟩ := (h.2.2.2.2.2.2.2.2.1 _ hm).1
      exact gokA_at q1 (by simp) (by decide)
    refine w_xI (by rw [gset_ne _ _ (Ne.symm hdax)]; exact c1) rfl rfl ?_
    rw [show (1 : Int32) = nI 1 from rfl, nI_sub (by omega)]
    refine w_xF (fs' := [va_rf (some d0), va_rf (some da), .int (nI (pl.length - 1)), va_rf (some ia), va_rf (some ro), .int (nI st.1), .int (nI st.2.1), .int (nI st.2.2), va_rf (some tx)]) (by rw [gset_ne _ _ (Ne.symm hdax)]; exact c1) rfl (Nat.le_of_ble_eq_true rfl) c3 rfl ?_
    have sub : ∀ e ∈ dsk d0 k0 (pl.drop 1) i0 i1, e ∈ dsk d0 k0 pl i0 i1 := fun e he => by
      rw [dsk_app] at he ⊢
      rcases List.mem_append.mp he with z | z
      · rcases List.mem_cons.mp z with y | y
        · exact List.mem_append.mpr (Or.inl (List.mem_cons.mpr (Or.inl y)))
        · exact List.mem_append.mpr (Or.inl (List.mem_cons.mpr (Or.inr (List.mem_of_mem_drop y))))
      · exact List.mem_append.mpr (Or.inr z)
    have hW2 := h.setx (G' := gset (gset G da (.inl (V.2.1 5, 6, .inr (.inr (.inr (.inr (va_cpy fd fd 1 0 5))))))) xo (.inr (0, [va_rf (some d0), va_rf (some da), .int (nI (pl.length - 1)), va_rf (some ia), va_rf (some ro), .int (nI st.1), .int (nI st.2.1), .int (nI st.2.2), va_rf (some tx)]))) (d0' := d0) (k0' := k0) (st' := st) (i0' := i0) (i1' := i1) (pl' := pl.drop 1) (fd := va_cpy fd fd 1 0 5) (fi := fi) (fun b b1 b2 b3 => by rw [gset_ne _ _ b1, gset_ne _ _ b2]) (by rw [List.length_drop]; exact gset_eq _ _ _) (by rw [gset_ne _ _ hdax]; exact gset_eq _ _ _) (fun i hi => by
        rw [List.length_drop] at hi
        unfold va_cpy
        rw [if_pos ⟨Nat.zero_le _, by omega⟩, Nat.sub_zero, d3 (1 + i) (by omega), List.getElem_drop]) (by rw [gset_ne _ _ hiax, gset_ne _ _ (Ne.symm hdaia)]; exact w1) w3 w4 (fun e he => h.2.2.2.2.2.2.2.2.1 e (sub e he)) (by
        refine List.Nodup.sublist (List.Sublist.map _ ?_) h.2.2.2.2.2.2.2.2.2.1
        rw [dsk_app, dsk_app]
        exact List.Sublist.append (List.Sublist.cons_cons _ (List.drop_sublist 1 pl)) (List.Sublist.refl _)) (by rw [List.length_drop]; omega)
    refine w_mono (note_33 hV hW2 (by rw [List.length_drop]; omega)) ?_
    rintro - G' c' s' ⟨u1, u2, tg', pl', u3, u4, u5, u6, u7⟩
    refine ⟨u1, u2, tg', pl', u3, u4, ?_, fun a b1 b2 b3 b4 => ?_, fun a ha => ?_⟩
    · unfold noteL
      rw [if_pos (by rw [List.length_map]; exact c), u5, List.map_drop]
    · rw [u6 a b1 b2 b3 b4, gset_ne _ _ b2, gset_ne _ _ b3]
    · rw [u7 a ha, gset_ne _ _ (by omega), gset_ne _ _ (by omega)]
  · refine w_neg (fun z => c ((nI_eq (b := 6) (by omega) (by omega)).mp z)) ?_
    refine w_mono (note_33 hV h (by omega)) ?_
    rintro - G' c' s' ⟨u1, u2, tg', pl', u3, u4, u5, u6, u7⟩
    refine ⟨u1, u2, tg', pl', u3, u4, ?_, u6, u7⟩
    unfold noteL
    rw [if_neg (by rw [List.length_map]; exact c), u5]
theorem notes_w (hV : 1200 ≤ V.2.2.2.2) (h : Wc V G nx xo tg d0 da ia ro rd tx st k0 pl i0 i1 txt U) : wH (hF_X0_notes V G nx xo) (fun _ G' c s => c ≤ 47 ∧ s ≤ 269 ∧ ∃ tg' pl', (∀ a, a < nx → tg' a = tg a) ∧ Wc V G' (nx + c) xo tg' d0 da ia ro rd tx st k0 pl' i0 i1 txt U ∧ pl'.map Prod.snd = noteL (pl.map Prod.snd) k0 ∧ (∀ a, tg a ≠ 0 → a ≠ xo → a ≠ da → tg a ≠ d0 → G' a = G a)) := by
  refine w_mono (notes_c hV h) ?_
  rintro - G' c s ⟨u1, u2, tg', pl', u3, u4, u5, u6, -⟩
  exact ⟨u1, u2, tg', pl', u3, u4, u5, u6⟩
end X

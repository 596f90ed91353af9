/-! PURE 26: toString, substring -/
section S
variable {V : HEn} {G : Gh} {o d n nx : Nat} {l : List Nat} {st : Prop}
/-- a part of a row of bytes, anew -/
theorem range_at {f : Nat → Int32} {p m : Nat} (hd : G d = some (.inl (V.2.1 1, n, .inl f))) (hff : ∀ i, i < n → fits .byte (.int (f i)) = true) (hn : n ≤ 1000) (hp : p + m ≤ n) (hx : d < nx) (hb : V.1 ≤ nx) : wH (hF_J11_copyOfRange V G nx (some d) (nI p) (nI (p + m))) (fun r G' c s => r = some nx ∧ c = 1 ∧ s = m ∧ (∃ g, G' nx = some (.inl (V.2.1 1, m, .inl g)) ∧ ∀ i, i < m → g i = f (p + i)) ∧ ∀ b, b ≠ nx → G' b = G b) := by
  have main : wH (hB_J11_copyOfRange_10 V G nx (some d) (nI p) (nI (p + m))) (fun r G' c s => r = some nx ∧ c = 1 ∧ s = m ∧ (∃ g, G' nx = some (.inl (V.2.1 1, m, .inl g)) ∧ ∀ i, i < m → g i = f (p + i)) ∧ ∀ b, b ≠ nx → G' b = G b) := by
    unfold hB_J11_copyOfRange_10 hF_J11_copyOfRangeByte
    apply w_cB
    refine w_call0 (r := ()) (G := G) ?_ ?_
    · unfold hF_J11_checkLength
      rw [if_pos ((nI_leq (by omega) (by omega)).mpr (by omega))]
    · rw [nI_sub (by omega), Nat.add_sub_cancel_left]
      refine w_gn (by omega) (w_tick (w_some ?_))
      have e2 : ∀ e, gset G (nx + 0) e d = some (.inl (V.2.1 1, n, .inl f)) := fun e => by rw [gset_ne _ _ (by omega)]; exact hd
      refine w_aln (e2 _) ?_
      rw [nI_sub (by omega)]
      have hmin : (if nI m < nI (n - p) then nI m else nI (n - p)) = nI m := by
        by_cases c : m < n - p
        · rw [if_pos (nI_lt c (by omega))]
        · rw [if_neg (nI_nlt (by omega) (by omega))]; congr 1; omega
      rw [hmin]
      refine w_bind (cpI_at (sp := p) (m := m) (e2 _) (gset_eq _ _ _) hb (by omega) (by omega) (by omega) (fun i hi => hff _ (by omega))) (w_ret (w_ret ⟨rfl, rfl, rfl, ⟨_, gset_eq _ _ _, fun i hi => ?_⟩, fun b hb => ?_⟩))
      · unfold va_cpy; rw [if_pos (by omega), Nat.sub_zero]
      · rw [Nat.add_zero, gset_ne _ _ hb, gset_ne _ _ hb]
  unfold hF_J11_copyOfRange
  refine w_if (fun c => ?_) (fun c => main)
  have hp0 : p = 0 := (nI_eq (b := 0) (by omega) (by omega)).mp c
  refine w_some (w_aln hd (w_if (fun c1 => ?_) (fun c1 => main)))
  have hm : m = n := by have := (nI_eq (by omega) (by omega)).mp c1; omega
  subst hp0; subst hm
  refine w_bind (v := (m, f)) ?_ (w_tick (w_aln (gset_eq _ _ _) (w_ret ⟨rfl, rfl, rfl, ⟨f, gset_eq _ _ _, fun i _ => by rw [Nat.zero_add]⟩, fun b hb => gset_ne _ _ hb⟩)))
  unfold clB
  rw [hd]
  simp only [true_and]
  rw [if_pos]
  rw [List.all_eq_true]
  intro i hi
  exact hff i (List.mem_range.mp hi)
theorem sb_toString (h : SBc V G o d n l) (ho : o < nx) (hd : d < nx) : wH (hF_J6_toString V G nx o) (fun r G' c s => r = some nx ∧ c = 2 ∧ s = 4 + l.length ∧ Str V G' nx (nx + 1) l False ∧ ∀ b, b ≠ nx → b ≠ nx + 1 → G' b = G b) := by
  have h0 := h
  obtain ⟨ml, f, h1, h2, h3, h4, h5, h6, h7, h8, h9, h10, h11⟩ := h
  unfold hF_J6_toString hF_J7_init hF_J7_init_2 hB_J7_init_2_97
  refine w_tick ?_
  apply w_cB
  apply w_cB
  have e1 : ∀ e, gset G nx e o = some (.inr (24, [va_rf (some d), .int 0, .int ml, .int (nI l.length)])) := fun e => by rw [gset_ne _ _ (by omega)]; exact h1
  have hk : ∀ e, SBc V (gset G nx e) o d n l := fun e => h0.keep (gset_ne _ _ (by omega)) (gset_ne _ _ (by omega))
  refine w_some (w_pos (gC_at (e1 _)) (w_call0 (r := some d) (G := gset G nx (.inr (25, [.null, .int 0, .int 0, .int 0]))) ?_ (w_pos (gC_at (e1 _)) (w_call0 (sb_length (hk _)) (w_pos (gC_at (e1 _)) (w_call0 (sb_latin (hk _)) (w_neg (by decide) ?_)))))))
  · unfold hF_J5_getValue
    rw [xR_at (e1 _) rfl rfl]
    rfl
  · refine w_xF (gset_eq _ _ _) rfl (Nat.le_of_ble_eq_true rfl) (by omega) rfl ?_
    rw [show nI l.length = nI (0 + l.length) by rw [Nat.zero_add]]
    refine w_call (range_at (V := V) (d := d) (nx := nx + 1 + 0 + 0 + 0) (f := f) (n := n) (p := 0) (m := l.length) ?_ h5 h10 (by omega) (by omega) (by omega)) ?_
    · rw [gset_ne _ _ (by omega), gset_ne _ _ (by omega)]; exact h2
    · rintro r G' c s ⟨rfl, rfl, rfl, ⟨g, q1, q2⟩, q3⟩
      refine w_xF (c := 25) (fs := [.null, .int 0, .int 0, .int 0]) (by rw [q3 _ (by omega)]; exact gset_eq _ _ _) rfl (Nat.le_of_ble_eq_true rfl) (by omega) rfl (w_ret (w_ret (w_ret ⟨rfl, rfl, rfl, ⟨g, 0, 0, gset_eq _ _ _, ?_, fun i hi => ?_, h11, by omega, by omega, Or.inl rfl, fun z => absurd rfl z, fun z => z.elim⟩, fun b b1 b2 => ?_⟩)))
      · rw [gset_ne _ _ (by omega)]; exact q1
      · rw [q2 i hi, Nat.zero_add]; exact h4 i hi
      · rw [gset_ne _ _ b1, q3 b b2, gset_ne _ _ b1, gset_ne _ _ b1]
theorem sub_fits {f : Nat → Int32} (h3 : ∀ i (h : i < l.length), f i = bt l[i]) : ∀ i, i < l.length → fits .byte (.int (f i)) = true := fun i hi => by rw [h3 i hi]; exact bt_fits _
/-- a part of a String: itself, the empty one (at e), or anew -/
theorem str_sub {p m d0 : Nat} (h : Str V G o d l st) (hp : p + m ≤ l.length) (ho : o < nx) (hd : d < nx) (hb : V.1 ≤ nx) (he : Str V G (V.2.2.2.1 6) d0 [] True) (hs : V.2.2.2.1 6 < nx ∧ d0 < nx) : wH (hF_J7_substring V G nx o (nI p) (nI (p + m))) (fun r G' c s => ∃ o' d', r = some o' ∧ c ≤ 2 ∧ s ≤ 4 + l.length ∧ o' < nx + c ∧ d' < nx + c ∧ (Str V G' o' d' ((l.drop p).take m) True ∨ Str V G' o' d' ((l.drop p).take m) False ∧ (o' = o ∨ V.1 ≤ o')) ∧ ∀ b, b < nx → G' b = G b) := by
  have h0 := h
  have hl := h.len
  obtain ⟨f, x, z, h1, h2, h3, h4, h5, h6, h7⟩ := h
  have main : wH (hB_J7_substring_22 V o G nx (nI p) (nI (p + m))) (fun r G' c s => ∃ o' d', r = some o' ∧ c ≤ 2 ∧ s ≤ 4 + l.length ∧ o' < nx + c ∧ d' < nx + c ∧ (Str V G' o' d' ((l.drop p).take m) True ∨ Str V G' o' d' ((l.drop p).take m) False ∧ (o' = o ∨ V.1 ≤ o')) ∧ ∀ b, b < nx → G' b = G b) := by
    unfold hB_J7_substring_22 hF_J12_newString
    refine w_pos h0.gC (w_call0 (str_latin h0) (w_neg (by decide) (w_xR h1 rfl rfl ?_)))
    apply w_cB
    rw [nI_sub (by omega), Nat.add_sub_cancel_left, nI_add]
    refine w_if (fun c => w_ret (w_ret ?_)) (fun c => w_tick ?_)
    · have hm : m = 0 := (nI_eq (b := 0) (by omega) (by omega)).mp c
      subst hm
      exact ⟨_, d0, rfl, by omega, by omega, by omega, by omega, Or.inl (by rw [List.take_zero]; exact he), fun _ _ => rfl⟩
    · refine w_call (range_at (V := V) (d := d) (nx := nx + 0 + 1) (f := f) (n := l.length) (p := p) (m := m) ?_ (sub_fits h3) hl hp (by omega) (by omega)) ?_
      · rw [gset_ne _ _ (by omega)]; exact h2
      · rintro r G' c s ⟨rfl, rfl, hsm, ⟨g, q1, q2⟩, q3⟩
        obtain rfl := hsm.symm
        unfold hF_J7_init_3
        apply w_cB
        refine w_xF (c := 25) (fs := [.null, .int 0, .int 0, .int 0]) (by rw [q3 _ (by omega)]; exact gset_eq _ _ _) rfl (Nat.le_of_ble_eq_true rfl) (by omega) rfl (w_pos (by decide) (w_xF (gset_eq _ _ _) rfl (Nat.le_of_ble_eq_true rfl) (by omega) rfl (w_ret (w_ret (w_ret ⟨nx, nx + 1, rfl, by omega, by omega, by omega, by omega, Or.inr ⟨⟨g, 0, 0, gset_eq _ _ _, ?_, fun i hi => ?_, fun c hc => h4 c (List.mem_of_mem_drop (List.mem_of_mem_take hc)), by omega, by rw [List.length_take]; omega, Or.inl rfl, fun z => absurd rfl z, fun z => z.elim⟩, Or.inr hb⟩, fun b b1 => ?_⟩)))))
        · rw [gset_ne _ _ (by omega), gset_ne _ _ (by omega), q1, List.length_take, List.length_drop, show min m (l.length - p) = m by omega]
        · rw [List.length_take] at hi
          rw [q2 i (by omega), h3 (p + i) (by omega)]
          simp
        · rw [gset_ne _ _ (by omega), gset_ne _ _ (by omega), q3 b (by omega), gset_ne _ _ (by omega)]
  unfold hF_J7_substring
  refine w_pos h0.gC (w_call0 (str_length h0) ?_)
  unfold hF_J7_checkBoundsBeginEnd
  refine w_call0 (r := ()) (G := G) ?_ ?_
  · unfold hF_J13_checkFromToIndex
    rw [if_neg (nI_pos (by omega)), if_neg (nI_nlt (by omega) (by omega)), if_pos ((nI_leq (by omega) (by omega)).mpr hp)]
    rfl
  · refine w_if (fun c => w_if (fun c1 => w_ret ?_) (fun _ => main)) (fun _ => main)
    have hp0 : p = 0 := (nI_eq (b := 0) (by omega) (by omega)).mp c
    have hm := (nI_eq (by omega) (by omega)).mp c1
    subst hp0
    refine ⟨o, d, rfl, by omega, by omega, by omega, by omega, Or.inr ⟨?_, Or.inl rfl⟩, fun _ _ => rfl⟩
    rw [List.drop_zero, List.take_of_length_le (by omega)]
    exact h0.any
end S

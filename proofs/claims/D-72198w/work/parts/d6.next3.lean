/-! PURE 93: Reader.next: loops -/
section X
variable {V : HEn} {nx ro so sd po it on : Nat} {l : List Nat}
theorem RdB.set {G : Gh} {at_ bg wo at2 bg2 : Nat} {nu nu2 : Int32} (h : RdB V G nx ro so sd po at_ bg wo nu it on l) : RdB V (gset G ro (rdc so po at2 bg2 wo nu2 it on)) nx ro so sd po at2 bg2 wo nu2 it on l := by
  obtain ⟨h1, h2, h3, h4, h5, h6, h7, h8, h9, h10, h11⟩ := h
  exact ⟨gset_eq _ _ _, h2.keep (gset_ne _ _ (by omega)) (gset_ne _ _ (by omega)), h3.keep (fun a ha => gset_ne _ _ (by omega)), h4, h5, h6, h7, h8, h9, h10, h11⟩
theorem ofB_eq {a lo hi : Nat} (p : Nat → Bool) (hp : ∀ c, p c = decide (lo ≤ c ∧ c ≤ hi)) : ofB l a lo hi = match l[a]? with
    | some c => p c
    | none => false := by
  unfold ofB
  cases l[a]? with
  | none => rfl
  | some c => exact (hp c).symm
/-- letters -/
theorem next_163 (hV : 1200 ≤ V.2.2.2.2) {bg wo : Nat} {nu : Int32} {P : List Nat} : ∀ (c at_ m : Nat) (G : Gh), at_ + c = l.length → c + 1 ≤ m → bg ≤ at_ → RdB V G nx ro so sd po at_ bg wo nu it on l →
    wH (hL_X4_next_163 V ro m G nx) (fun r G' c s => c ≤ 3 ∧ s ≤ 140 ∧ (∀ b, b < nx → b ≠ ro → b ≠ so → G' b = G b) ∧ ∃ e, e = (if skW isLe l at_ = bg ∧ bg < l.length then bg + 1 else skW isLe l at_) ∧ ((okW ((l.drop bg).take (e - bg)) = true ∧ r = .inl () ∧ RdW V G' (nx + c) ro so sd po e bg nu it on l ((l.drop bg).take (e - bg))) ∨ (okW ((l.drop bg).take (e - bg)) = false ∧ ∃ q, r = .inr q ∧ nx ≤ q ∧ q < nx + c ∧ FtA G' q bg))) := by
  intro c
  induction c with
  | zero =>
    intro at_ m G hc hm hbg h
    obtain ⟨m, rfl⟩ := Nat.exists_eq_succ_of_ne_zero (show m ≠ 0 by omega)
    obtain ⟨h1, h2, h3, h4, h5, h6, h7, h8, h9, h10, h11⟩ := id h
    have eo : ofB l at_ 97 122 = false := by unfold ofB; rw [List.getElem?_eq_none_iff.mpr (by omega)]
    have es : skW isLe l at_ = at_ := skW_stop (fun c hc' => by have := (List.getElem?_eq_some_iff.mp hc').1; omega)
    rw [hL_X4_next_163]
    refine w_pos (gC_at h1) (w_call0 (isOf_at (lo := 97) (hi := 122) h1 h2 (by omega) (by omega) (by omega)) (w_pos (by rw [eo]; rfl) (w_xI h1 rfl rfl (w_xI h1 rfl rfl (w_xI h1 rfl rfl ?_)))))
    have go : wH (hB_X4_next_221 V ro G nx (some ro) (nI at_)) (fun r G' c s => c ≤ 3 ∧ s ≤ 140 ∧ (∀ b, b < nx → b ≠ ro → b ≠ so → G' b = G b) ∧ ∃ e, e = (if skW isLe l at_ = bg ∧ bg < l.length then bg + 1 else skW isLe l at_) ∧ ((okW ((l.drop bg).take (e - bg)) = true ∧ r = .inl () ∧ RdW V G' (nx + c) ro so sd po e bg nu it on l ((l.drop bg).take (e - bg))) ∨ (okW ((l.drop bg).take (e - bg)) = false ∧ ∃ q, r = .inr q ∧ nx ≤ q ∧ q < nx + c ∧ FtA G' q bg))) := by
      unfold hB_X4_next_221
      refine w_mono (next_222 (e := at_) hV h (by rw [show (0 : Int32) = nI 0 from rfl, nI_add]; rfl) ⟨hbg, by omega⟩) ?_
      rintro r G' c s ⟨q1, q2, q3, q4⟩
      exact ⟨q1, q2, q3, at_, by rw [es, if_neg (by omega)], q4⟩
    by_cases cb : at_ = bg
    · exact w_pos (by rw [cb]) (w_xI h1 rfl rfl (w_xR h1 rfl rfl (w_some (w_pos h2.gC (w_call0 (str_length h2) (w_pos (nI_le (by omega) (by omega)) go))))))
    · exact w_neg (fun z => cb ((nI_eq (by omega) (by omega)).mp z)) go
  | succ c ih =>
    intro at_ m G hc hm hbg h
    obtain ⟨m, rfl⟩ := Nat.exists_eq_succ_of_ne_zero (show m ≠ 0 by omega)
    obtain ⟨h1, h2, h3, h4, h5, h6, h7, h8, h9, h10, h11⟩ := id h
    have hal : at_ < l.length := by omega
    have eg : l[at_]? = some l[at_] := List.getElem?_eq_getElem hal
    have eo : ofB l at_ 97 122 = isLe l[at_] := by unfold ofB; rw [eg]; rfl
    rw [hL_X4_next_163]
    refine w_pos (gC_at h1) (w_call0 (isOf_at (lo := 97) (hi := 122) h1 h2 (by omega) (by omega) (by omega)) ?_)
    rw [eo]
    cases ep : isLe l[at_] with
    | true =>
      obtain ⟨e1, e2⟩ := skW_step eg ep
      refine w_neg (by decide) (w_xI h1 rfl rfl ?_)
      rw [nI_1]
      refine w_xF (fs' := [va_rf (some so), va_rf (some po), .int (nI (at_ + 1)), .int (nI bg), va_rf (some wo), .int nu, .int (nI it), va_rf (some on)]) h1 rfl (Nat.le_of_ble_eq_true rfl) h4 rfl ?_
      refine w_mono (ih (at_ + 1) m _ (by omega) (by omega) (by omega) (h.set (at2 := at_ + 1) (bg2 := bg) (nu2 := nu))) ?_
      rintro r G' c s ⟨q1, q2, q3, q4⟩
      rw [e1]
      exact ⟨q1, q2, fun b b1 b2 b3 => by rw [q3 b b1 b2 b3]; exact gset_ne _ _ b2, q4⟩
    | false =>
      have es : skW isLe l at_ = at_ := skW_stop (fun c hc' => by rw [eg] at hc'; cases hc'; exact ep)
      refine w_pos rfl (w_xI h1 rfl rfl (w_xI h1 rfl rfl (w_xI h1 rfl rfl ?_)))
      by_cases cb : at_ = bg
      · refine w_pos (by rw [cb]) (w_xI h1 rfl rfl (w_xR h1 rfl rfl (w_some (w_pos h2.gC (w_call0 (str_length h2) (w_neg (nI_ge (by omega) (by omega)) ?_))))))
        refine w_mono (next_222 (e := at_ + 1) hV h (nI_1 at_) ⟨by omega, by omega⟩) ?_
        rintro r G' c s ⟨q1, q2, q3, q4⟩
        exact ⟨q1, q2, q3, at_ + 1, by rw [es, if_pos (by omega), cb], q4⟩
      · refine w_neg (fun z => cb ((nI_eq (by omega) (by omega)).mp z)) ?_
        unfold hB_X4_next_221
        refine w_mono (next_222 (e := at_) hV h (by rw [show (0 : Int32) = nI 0 from rfl, nI_add]; rfl) ⟨hbg, by omega⟩) ?_
        rintro r G' c s ⟨q1, q2, q3, q4⟩
        exact ⟨q1, q2, q3, at_, by rw [es, if_neg (by omega)], q4⟩
theorem i_nv : ∀ a, a < 101 → ∀ c, c < 58 → 48 ≤ c → (if ((10 * nI a) + nI c) - 48 < (100 : Int32) then ((10 * nI a) + nI c) - 48 else (100 : Int32)) = nI (nvF a c) := by decide +kernel
theorem nvF_le (a c : Nat) : nvF a c ≤ 100 := Nat.min_le_left _ _
/-- figures -/
theorem next_54 (hV : 1200 ≤ V.2.2.2.2) {bg wo c0 : Nat} (h0 : l[bg]? = some c0) : ∀ (c at_ m acc : Nat) (G : Gh), at_ + c = l.length → c + 1 ≤ m → bg < at_ ∨ (bg = at_ ∧ isDg c0 = true) → acc ≤ 100 → RdB V G nx ro so sd po at_ bg wo (nI acc) it on l →
    wH (hL_X4_next_54 V ro m G nx) (fun r G' c s => c ≤ 3 ∧ s ≤ 140 ∧ (∀ b, b < nx → b ≠ ro → b ≠ so → G' b = G b) ∧ (((((l.drop at_).takeWhile isDg).foldl nvF acc ≤ 99 ∧ (c0 ≠ 48 ∨ skW isDg l at_ = bg + 1)) ∧ r = .inl () ∧ RdW V G' (nx + c) ro so sd po (skW isDg l at_) bg (nI (((l.drop at_).takeWhile isDg).foldl nvF acc)) it on l [48]) ∨ ((¬ (((l.drop at_).takeWhile isDg).foldl nvF acc ≤ 99 ∧ (c0 ≠ 48 ∨ skW isDg l at_ = bg + 1))) ∧ ∃ q, r = .inr q ∧ nx ≤ q ∧ q < nx + c ∧ FtA G' q bg))) := by
  have hbl := (List.getElem?_eq_some_iff.mp h0).1
  -- where no figure stands
  have stop : ∀ (at_ acc m : Nat) (G : Gh), at_ ≤ l.length → bg < at_ → acc ≤ 100 → RdB V G nx ro so sd po at_ bg wo (nI acc) it on l → ofB l at_ 48 57 = false → wH (hL_X4_next_54 V ro (m + 1) G nx) (fun r G' c s => c ≤ 3 ∧ s ≤ 140 ∧ (∀ b, b < nx → b ≠ ro → b ≠ so → G' b = G b) ∧ (((acc ≤ 99 ∧ (c0 ≠ 48 ∨ at_ = bg + 1)) ∧ r = .inl () ∧ RdW V G' (nx + c) ro so sd po at_ bg (nI acc) it on l [48]) ∨ ((¬ (acc ≤ 99 ∧ (c0 ≠ 48 ∨ at_ = bg + 1))) ∧ ∃ q, r = .inr q ∧ nx ≤ q ∧ q < nx + c ∧ FtA G' q bg))) := by
    intro at_ acc m G ha hlt hacc h eo
    obtain ⟨h1, h2, h3, h4, h5, h6, h7, h8, h9, h10, h11⟩ := id h
    have hc0 : c0 < 256 := h2.ch c0 (List.mem_of_getElem? h0)
    rw [hL_X4_next_54]
    unfold hB_X4_next_152 hB_X4_next_148 hB_X4_next_153
    refine w_pos (gC_at h1) (w_call0 (isOf_at (lo := 48) (hi := 57) h1 h2 ha (by omega) (by omega)) (w_pos (by rw [eo]; rfl) (w_xI h1 rfl rfl ?_)))
    have bad : ¬ (acc ≤ 99 ∧ (c0 ≠ 48 ∨ at_ = bg + 1)) → ∀ nx', nx' = nx → wH ((some ro).bind fun a135 => if gC G a135 3 = true then xB (hF_X4_wants V G nx' a135 0) fun y138 G139 c140 => (xF V.1 G139 ro fl_RunWatch_Reader_word (va_rf (some (V.2.2.2.1 1)))).bind fun G147 => some (.inl (), G147, 0, 0) else none) (fun r G' c s => c ≤ 3 ∧ s ≤ 140 ∧ (∀ b, b < nx → b ≠ ro → b ≠ so → G' b = G b) ∧ (((acc ≤ 99 ∧ (c0 ≠ 48 ∨ at_ = bg + 1)) ∧ r = .inl () ∧ RdW V G' (nx + c) ro so sd po at_ bg (nI acc) it on l [48]) ∨ ((¬ (acc ≤ 99 ∧ (c0 ≠ 48 ∨ at_ = bg + 1))) ∧ ∃ q, r = .inr q ∧ nx ≤ q ∧ q < nx + c ∧ FtA G' q bg))) := fun hn nx' hnx => by
      subst hnx
      refine w_some (w_pos (gC_at h1) (w_xB (wants_no h1 h6 (by omega)) ?_ ?_))
      · rintro r G1 c s ⟨q1, -⟩
        cases q1
      · rintro q G1 c s ⟨q1, q2, q3, q4, q5⟩
        cases q1
        exact ⟨by omega, by omega, fun b b1 _ _ => q5 b b1, Or.inr ⟨hn, nx', rfl, Nat.le_refl _, by omega, q4⟩⟩
    have good : (acc ≤ 99 ∧ (c0 ≠ 48 ∨ at_ = bg + 1)) → ∀ nx', nx' = nx → wH ((some ro).bind fun a135 => if gC G a135 3 = true then xB (hF_X4_wants V G nx' a135 1) fun y138 G139 c140 => (xF V.1 G139 ro fl_RunWatch_Reader_word (va_rf (some (V.2.2.2.1 1)))).bind fun G147 => some (.inl (), G147, 0, 0) else none) (fun r G' c s => c ≤ 3 ∧ s ≤ 140 ∧ (∀ b, b < nx → b ≠ ro → b ≠ so → G' b = G b) ∧ (((acc ≤ 99 ∧ (c0 ≠ 48 ∨ at_ = bg + 1)) ∧ r = .inl () ∧ RdW V G' (nx + c) ro so sd po at_ bg (nI acc) it on l [48]) ∨ ((¬ (acc ≤ 99 ∧ (c0 ≠ 48 ∨ at_ = bg + 1))) ∧ ∃ q, r = .inr q ∧ nx ≤ q ∧ q < nx + c ∧ FtA G' q bg))) := fun hn nx' hnx => by
      subst hnx
      obtain ⟨d1, s1, s2, s3⟩ := h3 1 (by decide)
      refine w_some (w_pos (gC_at h1) ?_)
      refine w_callE (wants_yes (by decide)) ?_
      refine w_xF (fs' := [va_rf (some so), va_rf (some po), .int (nI at_), .int (nI bg), va_rf (some (V.2.2.2.1 1)), .int (nI acc), .int (nI it), va_rf (some on)]) h1 rfl (Nat.le_of_ble_eq_true rfl) h4 rfl (w_ret ⟨by omega, by omega, fun b b1 b2 _ => gset_ne _ _ b2, Or.inl ⟨hn, rfl, V.2.2.2.1 1, d1, gset_eq _ _ _, h2.keep (gset_ne _ _ (by omega)) (gset_ne _ _ (by omega)), s3.keep (gset_ne _ _ (by omega)) (gset_ne _ _ (by omega)), by omega, by omega, Or.inr (Or.inl s1), Or.inr (Or.inl s2)⟩⟩)
    by_cases c1 : 99 < acc
    · exact w_pos (nI_lt (a := 99) c1 (by omega)) (bad (by omega) _ rfl)
    · refine w_neg (nI_nlt (b := acc) (a := 99) (by omega) (by omega)) (w_xR h1 rfl rfl (w_xI h1 rfl rfl (w_some (w_pos h2.gC (w_call0 (str_charAt h2 hbl) ?_)))))
      have ec : l[bg] = c0 := by rw [List.getElem?_eq_getElem hbl] at h0; exact Option.some.inj h0
      rw [ec]
      by_cases c2 : c0 = 48
      · refine w_pos (by rw [c2]; rfl) (w_xI h1 rfl rfl (w_xI h1 rfl rfl ?_))
        rw [nI_1]
        by_cases c3 : at_ = bg + 1
        · exact w_pos (by rw [c3]) (good ⟨by omega, Or.inr c3⟩ _ rfl)
        · exact w_neg (fun z => c3 ((nI_eq (by omega) (by omega)).mp z)) (bad (by omega) _ rfl)
      · exact w_neg (fun z => c2 ((nI_eq (b := 48) (by omega) (by omega)).mp z)) (good ⟨by omega, Or.inl c2⟩ _ rfl)
  intro c
  induction c with
  | zero =>
    intro at_ m acc G hc hm hbg hacc h
    obtain ⟨m, rfl⟩ := Nat.exists_eq_succ_of_ne_zero (show m ≠ 0 by omega)
    have eo : ofB l at_ 48 57 = false := by unfold ofB; rw [List.getElem?_eq_none_iff.mpr (by omega)]
    have es : skW isDg l at_ = at_ := skW_stop (fun c hc' => by have := (List.getElem?_eq_some_iff.mp hc').1; omega)
    have et : (l.drop at_).takeWhile isDg = [] := by rw [List.drop_eq_nil_of_le (by omega)]; rfl
    rw [es, et]
    exact stop at_ acc m G (by omega) (by omega) hacc h eo
  | succ c ih =>
    intro at_ m acc G hc hm hbg hacc h
    obtain ⟨m, rfl⟩ := Nat.exists_eq_succ_of_ne_zero (show m ≠ 0 by omega)
    have hal : at_ < l.length := by omega
    have eg : l[at_]? = some l[at_] := List.getElem?_eq_getElem hal
    have eo : ofB l at_ 48 57 = isDg l[at_] := by unfold ofB; rw [eg]; rfl
    cases ep : isDg l[at_] with
    | false =>
      have es : skW isDg l at_ = at_ := skW_stop (fun c hc' => by rw [eg] at hc'; cases hc'; exact ep)
      have et : (l.drop at_).takeWhile isDg = [] := by rw [drop_cons eg, List.takeWhile_cons_of_neg (by rw [ep]; decide)]
      rw [es, et]
      refine stop at_ acc m G (by omega) ?_ hacc h (eo.trans ep)
      rcases hbg with z | ⟨z, z2⟩
      · exact z
      · rw [z, eg] at h0
        rw [Option.some.inj h0, z2] at ep
        cases ep
    | true =>
      obtain ⟨h1, h2, h3, h4, h5, h6, h7, h8, h9, h10, h11⟩ := id h
      obtain ⟨e1, e2⟩ := skW_step eg ep
      have hd := of_decide_eq_true ep
      rw [e1, e2, List.foldl_cons, hL_X4_next_54]
      refine w_pos (gC_at h1) (w_call0 (isOf_at (lo := 48) (hi := 57) h1 h2 (by omega) (by omega) (by omega)) ?_)
      rw [eo, ep]
      refine w_neg (by decide) (w_xI h1 rfl rfl (w_xR h1 rfl rfl (w_xI h1 rfl rfl (w_some (w_pos h2.gC (w_call0 (str_charAt h2 hal) ?_))))))
      rw [i_nv acc (by omega) l[at_] (by omega) hd.1]
      refine w_xF (fs' := [va_rf (some so), va_rf (some po), .int (nI at_), .int (nI bg), va_rf (some wo), .int (nI (nvF acc l[at_])), .int (nI it), va_rf (some on)]) h1 rfl (Nat.le_of_ble_eq_true rfl) h4 rfl (w_xI (gset_eq _ _ _) rfl rfl ?_)
      rw [nI_1]
      refine w_xF (fs' := [va_rf (some so), va_rf (some po), .int (nI (at_ + 1)), .int (nI bg), va_rf (some wo), .int (nI (nvF acc l[at_])), .int (nI it), va_rf (some on)]) (gset_eq _ _ _) rfl (Nat.le_of_ble_eq_true rfl) h4 rfl ?_
      have hS := (h.set (at2 := at_) (bg2 := bg) (nu2 := nI (nvF acc l[at_]))).set (at2 := at_ + 1) (bg2 := bg) (nu2 := nI (nvF acc l[at_]))
      refine w_mono (ih (at_ + 1) m (nvF acc l[at_]) _ (by omega) (by omega) (by omega) (nvF_le _ _) hS) ?_
      rintro r G' c s ⟨q1, q2, q3, q4⟩
      exact ⟨q1, q2, fun b b1 b2 b3 => by rw [q3 b b1 b2 b3, gset_ne _ _ b2, gset_ne _ _ b2], q4⟩
end X

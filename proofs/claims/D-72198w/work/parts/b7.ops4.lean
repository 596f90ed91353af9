/-! PURE 74: contracts: goes, becomes, undo, keep, back -/
section X
variable {V : HEn} {xo : Nat}
theorem gRows_at {p : Pn} {l : List (Nat × Nat)} {st : Nat × Nat × Nat} {i : Nat} (hi : i < l.length) : ∃ (h : i < (gRows p st l).length), ((gRows p st l)[i]).1 = (l.getD i (0, 0)).1 ∧ ((gRows p st l)[i]).2.1 = (l.getD i (0, 0)).2 := by
  obtain ⟨r, h1, h2, h3⟩ := gRows_get (p := p) (st := st) (getD_mem hi).1
  obtain ⟨h4, h5⟩ := List.getElem?_eq_some_iff.mp h1
  exact ⟨h4, by rw [h5]; exact h2, by rw [h5]; exact h3⟩
theorem ct_goes {a : Int32} (hV : 1200 ≤ V.2.2.2.2) : Ct V xo (fun G nx => hF_X0_goes V G nx xo a) (fun S => spGoes S a) := by
  rintro G nx S ul h0
  have h00 := h0
  obtain ⟨tg, d0, da, ia, ro, rd, tx, pl, i0, i1, rws, hW, hR, e1, e2, e3, hu⟩ := h0
  obtain ⟨c1, c2, c3⟩ := hW.2.2.1
  obtain ⟨po, to, q1, q2, q3, q4, q5, q6, hok⟩ := hW.now
  obtain ⟨r1, r2, r3, r4⟩ := hR
  rw [gRows_len] at r3
  have hl40 := hok.2.2.1
  show wH (hF_X0_goes V G nx xo a) (fun r G' c s => r = (spGoes S a).1 ∧ ∃ ul', Wd V G' (nx + c) xo (spGoes S a).2 ul' ∧ Cost c s ul.length ul'.length)
  unfold hF_X0_goes spGoes
  refine w_pos (gC_at c1) (w_call0 (isRow_at c1 r1) ?_)
  rw [List.length_map, r3]
  cases ea : iR a S.1.2.length with
  | none => exact w_pos rfl (w_ret ⟨rfl, Ct.same h00 rfl rfl⟩)
  | some i =>
    obtain ⟨rfl, hi⟩ := iR_some (by omega) ea
    obtain ⟨hi2, g1, g2⟩ := gRows_at (p := S.1.1) (st := (0, 0, 0)) hi
    have hrow := r4 i (by omega) hi2
    have hm := getD_mem hi
    have hv := hW.row hm.2
    refine w_neg (isS1 i) (w_xR c1 rfl rfl (w_some (w_pos (by obtain ⟨ml, nn, ff, z, -⟩ := r1; exact gC_at z) (w_call0 (al_get r1 (by simp; omega)) ?_))))
    rw [List.getElem_map]
    refine w_pos (gok_at hrow (by simp)) (w_some (w_xI hrow rfl rfl (w_pos (gC_at c1) (w_call (notes_w hV hW) ?_))))
    rw [g1]
    rintro - G1 n1 s1 ⟨u1, u2, tg1, pl1, u3, u4, u5, u6⟩
    obtain ⟨x1, x2, x3⟩ := u4.2.2.1
    obtain ⟨po1, to1, v1, v2, v3, v4, v5, v6, -⟩ := u4.now
    refine w_xR x1 rfl rfl (w_some (w_xR v1 rfl rfl ?_))
    obtain ⟨rv, f1, f2, rfl, f3, f4⟩ := valueOf_at (nx := nx + 0 + 0 + n1) u4.1.2.2.1 (show (S.1.2.getD i (0, 0)).1 < 128 by omega)
    refine w_call0 f1 (w_some (w_pos v2.gC ?_))
    refine w_call (TM.rem (v := (S.1.2.getD i (0, 0)).2) (p := i) (by omega) v2 ⟨f2, rfl, f3, f4⟩ (by omega) hm.1) ?_
    rintro - G2 n2 s2 ⟨rfl, rfl, w1, w2⟩
    obtain ⟨tg2, y1, y2⟩ := u4.setT (nx' := nx + n1) v1 v3 (w1.mono (fun a ha => Or.inl ha)) (Nat.le_refl _) (fun b b1 b2 => w2 b b1) (by rw [List.length_eraseIdx]; split <;> omega) (fun y hy => hW.row (List.mem_of_mem_eraseIdx hy))
    refine w_pos (gC_at y2.2.2.1.1) (w_call (goes_d hV y2 hu) ?_)
    rintro - G3 n3 s3 ⟨z1, z2, z3, -⟩
    refine w_ret ⟨rfl, ul, ?_, by unfold Cost; omega⟩
    rw [u5, e1, e2, e3] at z3
    rw [show nx + (n1 + (0 + (n3 + 0))) = nx + n1 + n3 by omega]
    exact z3
theorem ct_bec {a b : Int32} (hV : 1200 ≤ V.2.2.2.2) : Ct V xo (fun G nx => hF_X0_becomes_2 V G nx xo a b) (fun S => spBec S a b) := by
  rintro G nx S ul h0
  have h00 := h0
  obtain ⟨tg, d0, da, ia, ro, rd, tx, pl, i0, i1, rws, hW, hR, e1, e2, e3, hu⟩ := h0
  obtain ⟨c1, c2, c3⟩ := hW.2.2.1
  obtain ⟨po, to, q1, q2, q3, q4, q5, q6, hok⟩ := hW.now
  obtain ⟨r1, r2, r3, r4⟩ := hR
  rw [gRows_len] at r3
  have hl40 := hok.2.2.1
  show wH (hF_X0_becomes_2 V G nx xo a b) (fun r G' c s => r = (spBec S a b).1 ∧ ∃ ul', Wd V G' (nx + c) xo (spBec S a b).2 ul' ∧ Cost c s ul.length ul'.length)
  unfold hF_X0_becomes_2 hB_X0_becomes_2_15 spBec
  refine w_pos (gC_at c1) (w_call0 (isRow_at c1 r1) ?_)
  rw [List.length_map, r3]
  cases ea : iR a S.1.2.length with
  | none => exact w_pos rfl (w_ret ⟨rfl, Ct.same h00 rfl rfl⟩)
  | some i =>
    obtain ⟨rfl, hi⟩ := iR_some (by omega) ea
    refine w_neg (isS1 i) (w_call0 isSign_at ?_)
    cases eb : iR b 5 with
    | none => exact w_pos rfl (w_ret ⟨rfl, Ct.same h00 rfl rfl⟩)
    | some s =>
      obtain ⟨rfl, hs⟩ := iR_some (by decide) eb
      obtain ⟨hi2, g1, g2⟩ := gRows_at (p := S.1.1) (st := (0, 0, 0)) hi
      have hrow := r4 i (by omega) hi2
      have hm := getD_mem hi
      have hv := hW.row hm.2
      refine w_neg (isS1 s) (w_xR c1 rfl rfl (w_some (w_pos (by obtain ⟨ml, nn, ff, z, -⟩ := r1; exact gC_at z) (w_call0 (al_get r1 (by simp; omega)) ?_))))
      rw [List.getElem_map]
      refine w_pos (gok_at hrow (by simp)) (w_some (w_xI hrow rfl rfl ?_))
      rw [g2]
      simp only
      by_cases c : (S.1.2.getD i (0, 0)).2 = s
      · rw [if_pos c]
        exact w_pos (by rw [c]) (w_ret ⟨rfl, Ct.same h00 rfl rfl⟩)
      · rw [if_neg c]
        refine w_neg (fun z => c ((nI_eq (by omega) (by omega)).mp z)) (w_pos (gC_at c1) (w_call (notes_w hV hW) ?_))
        rintro - G1 n1 s1 ⟨u1, u2, tg1, pl1, u3, u4, u5, u6⟩
        obtain ⟨x1, x2, x3⟩ := u4.2.2.1
        obtain ⟨po1, to1, v1, v2, v3, v4, v5, v6, -⟩ := u4.now
        -- the old row stays as it is
        obtain ⟨t1, t2, t3⟩ := r2 _ (List.getElem_mem (show i < rws.length by omega))
        have hhd := hW.heads
        have hr0 : ro ≠ 0 := hhd.2.1
        have rx : ro ≠ xo := hhd.2.2.2.1
        have dr := (hhd.2.2.2.2.2.2.2.2.2.2.2.2 (d0, S.1) (by simp [dsk])).2.2.1
        have hal := (hW.2.1 _ (show tg rws[i] ≠ 0 by rw [t1]; exact hr0)).2
        have hxx : rws[i] ≠ xo := hW.sepx (by rw [t1]; exact rx)
        have hdd : rws[i] ≠ da := fun e => by
          have := hW.2.2.2.1.choose_spec.2.1
          rw [← e, t1] at this
          exact rx this
        have k1 : G1 rws[i] = some (rcell (gRows S.1.1 (0, 0, 0) S.1.2)[i]) := by
          rw [u6 _ (by rw [t1]; exact hr0) hxx hdd (by rw [t1]; exact Ne.symm dr)]; exact hrow
        refine w_xR x1 rfl rfl (w_some (w_xR v1 rfl rfl (w_xI k1 rfl rfl ?_)))
        rw [g1]
        obtain ⟨rv, f1, f2, rfl, f3, f4⟩ := valueOf_at (nx := nx + 0 + 0 + 0 + n1) u4.1.2.2.1 (show (S.1.2.getD i (0, 0)).1 < 128 by omega)
        obtain ⟨rw_, g1', g2', rfl, g3, g4⟩ := valueOf_at (nx := nx + 0 + 0 + 0 + n1 + 0) u4.1.2.2.1 (show s < 128 by omega)
        refine w_call0 f1 (w_call0 g1' (w_some (w_pos v2.gC ?_)))
        refine w_call (TM.set (p := i) (w0 := (S.1.2.getD i (0, 0)).2) (by omega) v2 ⟨f2, rfl, f3, f4⟩ ⟨g2', rfl, g3, g4⟩ (by omega) (by omega) hm.1) ?_
        rintro - G2 n2 s2 ⟨rfl, rfl, w1, w2⟩
        have hal1 : rws[i] < nx + n1 := by omega
        have tt1 : tg1 rws[i] = ro := by rw [u3 _ hal]; exact t1
        have k2 : G2 rws[i] = some (rcell (gRows S.1.1 (0, 0, 0) S.1.2)[i]) := by
          rw [w2 _ (fun z => dr (by rw [← z.1]; exact tt1))]; exact k1
        obtain ⟨tg2, y1, y2⟩ := u4.setT (nx' := nx + n1) v1 v3 (w1.mono (fun a ha => Or.inl ha)) (Nat.le_refl _) (fun b b1 b2 => w2 b b1) (by rw [List.length_set]; omega) (fun y hy => by
          rcases List.mem_or_eq_of_mem_set hy with z | z
          · exact hW.row z
          · rw [z]; exact ⟨hv.1, by simp only; omega⟩)
        unfold hB_X0_becomes_2_67
        refine w_pos (gC_at y2.2.2.1.1) (w_call (goes_d hV y2 hu) ?_)
        rintro - G3 n3 s3 ⟨z1, z2, z3, z4⟩
        have k3 : G3 rws[i] = some (rcell (gRows S.1.1 (0, 0, 0) S.1.2)[i]) := by
          rw [z4 _ (by rw [y1 _ hal1]; exact tt1) t3 t2]; exact k2
        refine w_some (w_xI k3 rfl rfl (w_ret ⟨by rw [g2], ul, ?_, by unfold Cost; omega⟩))
        rw [u5, e1, e2, e3] at z3
        rw [show nx + (n1 + (0 + (n3 + 0))) = nx + n1 + n3 by omega]
        exact z3
end X

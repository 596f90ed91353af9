/-! PURE 77: what is asked: rule, chance, row, alarm, signal, step, count -/
def stN (S : Sp) : Nat := (stO S.1.1.1 (gLast S.1.1 (0, 0, 0) S.1.2).1).getD 0
def spRule (S : Sp) (a b : Int32) : Int32 := match iR a S.1.1.1.length, iR b 3 with
  | some i, some w => nI (if w = 0 then (S.1.1.1.getD i (0, 0, 0)).1 else if w = 1 then (S.1.1.1.getD i (0, 0, 0)).2.1 else (S.1.1.1.getD i (0, 0, 0)).2.2)
  | _, _ => -1
def spChance (S : Sp) (a : Int32) : Int32 := match iR a 5 with
  | some i => nI (S.1.1.2.1.getD i 0)
  | none => -1
def rwD : Rw := (0, 0, 0, 0, 0, 0, 0)
def spRow (S : Sp) (a b : Int32) : Int32 := match iR a S.1.2.length with
  | some i => if b = 0 then nI ((gRows S.1.1 (0, 0, 0) S.1.2).getD i rwD).1 else if b = 1 then nI ((gRows S.1.1 (0, 0, 0) S.1.2).getD i rwD).2.1 else if b = 2 then nI ((gRows S.1.1 (0, 0, 0) S.1.2).getD i rwD).2.2.1 else if b = 3 then nI ((stO S.1.1.1 ((gRows S.1.1 (0, 0, 0) S.1.2).getD i rwD).2.2.2.1).getD 0) else if b = 4 then nI ((gRows S.1.1 (0, 0, 0) S.1.2).getD i rwD).2.2.2.2.1 else if b = 5 then nI ((gRows S.1.1 (0, 0, 0) S.1.2).getD i rwD).2.2.2.2.2.1 else if b = 6 then nI ((gRows S.1.1 (0, 0, 0) S.1.2).getD i rwD).2.2.2.2.2.2 else -1
  | none => -1
def tmL (f : Rw → Bool) (k : Int32) : List Rw → Int32 → Int32
  | [], n => if k = -1 then n else -9
  | r :: t, n => if f r then (if n = k then nI r.1 else tmL f k t (n + 1)) else tmL f k t n
def spTime (f : Rw → Bool) (S : Sp) (a : Int32) : Int32 := if (-1) ≤ a then tmL f a (gRows S.1.1 (0, 0, 0) S.1.2) 0 else -1
def fAl (r : Rw) : Bool := !decide (r.2.2.1 = 0)
def fSg (r : Rw) : Bool := !decide (r.2.2.2.2.2.2 = 0)
def spStep (S : Sp) (a b : Int32) : Int32 := match iR a (sts S.1.1.1).length, iR b 5 with
  | some i, some s => tell (stT S.1.1.1 i s)
  | _, _ => -1
def spCount (S : Sp) (a : Int32) : Int32 := if a = 0 then nI S.1.1.1.length else if a = 1 then nI S.1.2.length else if a = 2 then nI (sts S.1.1.1).length else if a = 3 then nI (stN S) else if a = 4 then nI S.1.1.2.2.1 else if a = 5 then nI S.1.1.2.2.2 else if a = 6 then nI (gLast S.1.1 (0, 0, 0) S.1.2).2.1 else if a = 7 then nI (gLast S.1.1 (0, 0, 0) S.1.2).2.2 else if a = 8 then nI S.2.2.2.length else if a = 9 then nI S.2.1.length else -1
theorem mCost {c s c2 s2 : Nat} {ul ul' : List Nat} {P : Prop} (h : (c = 0 ∧ s = 0 ∧ ul' = ul ∧ P) ∨ (c ≤ 9700 ∧ s ≤ 140100 ∧ ul'.length + 1 = ul.length)) (h2 : c2 ≤ 6800) (h3 : s2 ≤ 34900) : Cost (c + c2) (s + s2) ul.length ul'.length := by
  unfold Cost
  rcases h with ⟨w1, w2, w3, -⟩ | w
  · rw [w3]; omega
  · omega
section X
variable {V : HEn} {xo : Nat}
theorem ct_rule {a b : Int32} (hV : 1200 ≤ V.2.2.2.2) : Ct V xo (fun G nx => hF_X0_rule V G nx xo a b) (fun S => (spRule S a b, S)) := by
  rintro G nx S ul h0
  have h00 := h0
  obtain ⟨tg, d0, da, ia, ro, rd, tx, pl, i0, i1, rws, hW, hR, e1, e2, e3, hu⟩ := h0
  obtain ⟨c1, c2, c3⟩ := hW.2.2.1
  obtain ⟨po, to, q1, q2, q3, q4, q5, q6, hok⟩ := hW.now
  obtain ⟨lo, ld, ad, ch, mc, f, p1, p2, -⟩ := q3
  obtain ⟨r1, r2, r3, r4, r5⟩ := p2
  show wH (hF_X0_rule V G nx xo a b) (fun r G' c s => r = spRule S a b ∧ ∃ ul', Wd V G' (nx + c) xo S ul' ∧ Cost c s ul.length ul'.length)
  unfold hF_X0_rule hB_X0_rule_60 hB_X0_rule_61 spRule
  have gl : gC G lo 8 = true := by obtain ⟨ml, nn, ff, z, -⟩ := r1; exact gC_at z
  refine w_xR c1 rfl rfl (w_some (w_xR q1 rfl rfl (w_some (w_xR p1 rfl rfl (w_some (w_pos gl (w_call0 (al_size r1) ?_)))))))
  rw [List.length_map, r2]
  refine w_call0 (isIn_at (by omega)) ?_
  cases ea : iR a S.1.1.1.length with
  | none => exact w_pos rfl (w_ret ⟨rfl, Ct.same h00 rfl rfl⟩)
  | some i =>
    obtain ⟨rfl, hi⟩ := iR_some (by omega) ea
    refine w_neg (isS1 i) (w_call0 (isIn_at (n := 3) (by decide)) ?_)
    cases eb : iR b 3 with
    | none => exact w_pos rfl (w_ret ⟨rfl, Ct.same h00 rfl rfl⟩)
    | some w =>
      obtain ⟨rfl, hw⟩ := iR_some (by decide) eb
      have hA := (r5 i (by omega) hi).1
      have eg : S.1.1.1.getD i (0, 0, 0) = S.1.1.1[i] := by simp [hi]
      refine w_neg (isS1 w) (w_xR c1 rfl rfl (w_some (w_xR q1 rfl rfl (w_some (w_xR p1 rfl rfl (w_some (w_pos gl (w_call0 (al_get r1 (by simp; omega)) ?_))))))))
      rw [List.getElem_map]
      refine w_pos (gok_at hA (by simp)) (w_some (w_pos (gC_at hA) ?_))
      simp only
      rw [eg]
      unfold hF_X6_told
      have h3 : w = 0 ∨ w = 1 ∨ w = 2 := by omega
      rcases h3 with z | z | z
      · subst z
        exact w_cB (w_pos rfl (w_xI hA rfl rfl (w_ret (w_ret ⟨rfl, Ct.same h00 rfl rfl⟩))))
      · subst z
        exact w_cB (w_neg (by decide) (w_pos rfl (w_xI hA rfl rfl (w_ret (w_ret ⟨rfl, Ct.same h00 rfl rfl⟩)))))
      · subst z
        exact w_cB (w_neg (by decide) (w_neg (by decide) (w_xI hA rfl rfl (w_ret (w_ret ⟨rfl, Ct.same h00 rfl rfl⟩)))))
theorem ct_chance {a : Int32} (hV : 1200 ≤ V.2.2.2.2) : Ct V xo (fun G nx => hF_X0_chance V G nx xo a) (fun S => (spChance S a, S)) := by
  rintro G nx S ul h0
  have h00 := h0
  obtain ⟨tg, d0, da, ia, ro, rd, tx, pl, i0, i1, rws, hW, hR, e1, e2, e3, hu⟩ := h0
  obtain ⟨c1, c2, c3⟩ := hW.2.2.1
  obtain ⟨po, to, q1, q2, q3, q4, q5, q6, hok⟩ := hW.now
  obtain ⟨lo, ld, ad, ch, mc, f, p1, p2, p3, p4, -⟩ := q3
  show wH (hF_X0_chance V G nx xo a) (fun r G' c s => r = spChance S a ∧ ∃ ul', Wd V G' (nx + c) xo S ul' ∧ Cost c s ul.length ul'.length)
  unfold hF_X0_chance hB_X0_chance_23 spChance
  refine w_call0 isSign_at ?_
  cases ea : iR a 5 with
  | none => exact w_pos rfl (w_ret ⟨rfl, Ct.same h00 rfl rfl⟩)
  | some i =>
    obtain ⟨rfl, hi⟩ := iR_some (by decide) ea
    exact w_neg (isS1 i) (w_xR c1 rfl rfl (w_some (w_xR q1 rfl rfl (w_some (w_xR p1 rfl rfl (w_some (w_rdI p3 (gd_nI hi (by omega)) (w_ret ⟨p4 i hi, Ct.same h00 rfl rfl⟩))))))))
theorem ct_row {a b : Int32} (hV : 1200 ≤ V.2.2.2.2) : Ct V xo (fun G nx => hF_X0_row V G nx xo a b) (fun S => (spRow S a b, S)) := by
  rintro G nx S ul h0
  have h00 := h0
  obtain ⟨tg, d0, da, ia, ro, rd, tx, pl, i0, i1, rws, hW, hR, e1, e2, e3, hu⟩ := h0
  obtain ⟨c1, c2, c3⟩ := hW.2.2.1
  obtain ⟨po, to, q1, q2, q3, q4, q5, q6, hok⟩ := hW.now
  have hr0 := hW.heads.2.1
  obtain ⟨r1, r2, r3, r4⟩ := hR
  rw [gRows_len] at r3
  have hl40 := hok.2.2.1
  show wH (hF_X0_row V G nx xo a b) (fun r G' c s => r = spRow S a b ∧ ∃ ul', Wd V G' (nx + c) xo S ul' ∧ Cost c s ul.length ul'.length)
  unfold hF_X0_row hB_X0_row_117 spRow
  refine w_pos (gC_at c1) (w_call0 (isRow_at c1 r1) ?_)
  rw [List.length_map, r3]
  cases ea : iR a S.1.2.length with
  | none => exact w_pos rfl (w_ret ⟨rfl, Ct.same h00 rfl rfl⟩)
  | some i =>
    obtain ⟨rfl, hi⟩ := iR_some (by omega) ea
    obtain ⟨hi2, g1, g2⟩ := gRows_at (p := S.1.1) (st := (0, 0, 0)) hi
    have hrow := r4 i (by omega) hi2
    have eg : (gRows S.1.1 (0, 0, 0) S.1.2).getD i rwD = (gRows S.1.1 (0, 0, 0) S.1.2)[i] := by simp [hi2]
    have hrk := gRows_ok (l := S.1.2) hok.1 (st0_ok hok.1) (fun y hy => (hok.2.2.2 y hy).2) _ (List.getElem_mem hi2)
    refine w_neg (isS1 i) (w_xR c1 rfl rfl (w_some (w_pos (by obtain ⟨ml, nn, ff, z, -⟩ := r1; exact gC_at z) (w_call0 (al_get r1 (by simp; omega)) ?_))))
    rw [List.getElem_map]
    simp only
    rw [eg]
    generalize (gRows S.1.1 (0, 0, 0) S.1.2)[i] = rr at hrow hrk ⊢
    refine w_pos (gok_at hrow (by simp)) ?_
    by_cases b0 : b = 0
    · rw [if_pos b0, if_pos b0]; exact w_some (w_xI hrow rfl rfl (w_ret ⟨rfl, Ct.same h00 rfl rfl⟩))
    rw [if_neg b0, if_neg b0]
    by_cases b1 : b = 1
    · rw [if_pos b1, if_pos b1]; exact w_some (w_xI hrow rfl rfl (w_ret ⟨rfl, Ct.same h00 rfl rfl⟩))
    rw [if_neg b1, if_neg b1]
    by_cases b2 : b = 2
    · rw [if_pos b2, if_pos b2]; exact w_some (w_xI hrow rfl rfl (w_ret ⟨rfl, Ct.same h00 rfl rfl⟩))
    rw [if_neg b2, if_neg b2]
    by_cases b3 : b = 3
    · rw [if_pos b3, if_pos b3]
      refine w_pos (gC_at c1) (w_call (mach_d hV h00) ?_)
      rintro r G1 n1 s1 ⟨mo, ul', rfl, u1, u2, u3, u4, u5⟩
      have hal := (hW.2.1 _ (show tg rws[i] ≠ 0 by rw [(r2 _ (List.getElem_mem (show i < rws.length by omega))).1]; exact hr0)).2
      have k1 : G1 rws[i] = some (rcell rr) := by rw [u4 _ ⟨rr, hrow⟩ hal]; exact hrow
      obtain ⟨j, j1, j2⟩ := stO_some hok.1.1 hrk.1.1
      obtain ⟨d0', da', dm', ia', ro', st', tx', po', to', lo', ch', f', F', -, -, -, -, -, -, v7, -, -, -, -, -, -, v14⟩ := u2
      refine w_some (w_xI k1 rfl rfl (w_some (w_pos v7.gC (w_call0 (v7.stateOf hV v14 hrk.1.1 j1) (w_ret ⟨?_, ul', ?_, ?_⟩)))))
      · show nI j = nI ((stO S.1.1.1 (rSt rr).1).getD 0)
        rw [j1]; rfl
      · exact u1
      · exact mCost (c2 := 0) (s2 := 0) u5 (by omega) (by omega)
    rw [if_neg b3, if_neg b3]
    by_cases b4 : b = 4
    · rw [if_pos b4, if_pos b4]; exact w_some (w_xI hrow rfl rfl (w_ret ⟨rfl, Ct.same h00 rfl rfl⟩))
    rw [if_neg b4, if_neg b4]
    by_cases b5 : b = 5
    · rw [if_pos b5, if_pos b5]; exact w_some (w_xI hrow rfl rfl (w_ret ⟨rfl, Ct.same h00 rfl rfl⟩))
    rw [if_neg b5, if_neg b5]
    by_cases b6 : b = 6
    · rw [if_pos b6, if_pos b6]
      refine w_some (w_xI hrow rfl rfl ?_)
      have h1 := hrk.2.2
      by_cases cz : rr.2.2.2.2.2.2 = 0
      · rw [cz]
        exact w_pos rfl (w_ret ⟨rfl, Ct.same h00 rfl rfl⟩)
      · have : rr.2.2.2.2.2.2 = 1 := by omega
        rw [this]
        exact w_neg (by decide) (w_ret ⟨rfl, Ct.same h00 rfl rfl⟩)
    rw [if_neg b6, if_neg b6]
    exact w_ret ⟨rfl, Ct.same h00 rfl rfl⟩
theorem ct_step {a b : Int32} (hV : 1200 ≤ V.2.2.2.2) : Ct V xo (fun G nx => hF_X0_step V G nx xo a b) (fun S => (spStep S a b, S)) := by
  rintro G nx S ul h0
  have h00 := h0
  obtain ⟨tg, d0, da, ia, ro, rd, tx, pl, i0, i1, rws, hW, hR, e1, e2, e3, hu⟩ := h0
  obtain ⟨c1, c2, c3⟩ := hW.2.2.1
  obtain ⟨po, to, q1, q2, q3, q4, q5, q6, hok⟩ := hW.now
  have hs36 := (sts_ok hok.1.1).2.2.2.1
  show wH (hF_X0_step V G nx xo a b) (fun r G' c s => r = spStep S a b ∧ ∃ ul', Wd V G' (nx + c) xo S ul' ∧ Cost c s ul.length ul'.length)
  unfold hF_X0_step hB_X0_step_36 hB_X0_step_37 spStep
  refine w_pos (gC_at c1) (w_call (mach_d hV h00) ?_)
  rintro r G1 n1 s1 ⟨mo, ul', rfl, u1, u2, u3, u4, u5⟩
  obtain ⟨F, hM⟩ := u2.at_
  have fin : ∃ ul', Wd V G1 (nx + (n1 + 0)) xo S ul' ∧ Cost (n1 + 0) (s1 + 0) ul.length ul'.length := ⟨ul', u1, mCost u5 (by omega) (by omega)⟩
  refine w_some (w_pos hM.gC (w_call0 hM.many (w_call0 (isIn_at (by omega)) ?_)))
  cases ea : iR a (sts S.1.1.1).length with
  | none => exact w_pos rfl (w_ret ⟨rfl, fin⟩)
  | some i =>
    obtain ⟨rfl, hi⟩ := iR_some (by omega) ea
    refine w_neg (isS1 i) (w_call0 isSign_at ?_)
    cases eb : iR b 5 with
    | none => exact w_pos rfl (w_ret ⟨rfl, fin⟩)
    | some s =>
      obtain ⟨rfl, hs⟩ := iR_some (by decide) eb
      exact w_neg (isS1 s) (w_pos u2.gC (w_call0 u2.machine (w_some (w_pos hM.gC (w_call0 (hM.step hi hs) (w_ret ⟨rfl, fin⟩))))))
theorem ct_count {a : Int32} (hV : 1200 ≤ V.2.2.2.2) : Ct V xo (fun G nx => hF_X0_count V G nx xo a) (fun S => (spCount S a, S)) := by
  rintro G nx S ul h0
  have h00 := h0
  obtain ⟨tg, d0, da, ia, ro, rd, tx, pl, i0, i1, rws, hW, hR, e1, e2, e3, hu⟩ := h0
  obtain ⟨c1, c2, c3⟩ := hW.2.2.1
  obtain ⟨po, to, q1, q2, q3, q4, q5, q6, hok⟩ := hW.now
  obtain ⟨lo, ld, ad, ch, mc, f, p1, p2, -⟩ := q3
  obtain ⟨r1, r2, -⟩ := p2
  obtain ⟨td, tn, g1, -⟩ := hW.2.2.2.2.2.2.2.1
  have hgl := gLast_ok (l := S.1.2) hok.1 (st0_ok hok.1) (fun y hy => (hok.2.2.2 y hy).2)
  show wH (hF_X0_count V G nx xo a) (fun r G' c s => r = spCount S a ∧ ∃ ul', Wd V G' (nx + c) xo S ul' ∧ Cost c s ul.length ul'.length)
  unfold hF_X0_count spCount
  by_cases b0 : a = 0
  · rw [if_pos b0, if_pos b0]
    exact w_xR c1 rfl rfl (w_some (w_xR q1 rfl rfl (w_some (w_xR p1 rfl rfl (w_some (w_pos (by obtain ⟨ml, nn, ff, z, -⟩ := r1; exact gC_at z) (w_call0 (al_size r1) (w_ret ⟨by rw [List.length_map, r2], Ct.same h00 rfl rfl⟩))))))))
  rw [if_neg b0, if_neg b0]
  by_cases b1 : a = 1
  · rw [if_pos b1, if_pos b1]
    obtain ⟨s1, s2, s3, s4⟩ := hR
    rw [gRows_len] at s3
    exact w_xR c1 rfl rfl (w_some (w_pos (by obtain ⟨ml, nn, ff, z, -⟩ := s1; exact gC_at z) (w_call0 (al_size s1) (w_ret ⟨by rw [List.length_map, s3], Ct.same h00 rfl rfl⟩))))
  rw [if_neg b1, if_neg b1]
  by_cases b2 : a = 2
  · rw [if_pos b2, if_pos b2]
    refine w_pos (gC_at c1) (w_call (mach_d hV h00) ?_)
    rintro r G1 n1 s1 ⟨mo, ul', rfl, u1, u2, u3, u4, u5⟩
    obtain ⟨F, hM⟩ := u2.at_
    exact w_some (w_pos hM.gC (w_call0 hM.many (w_ret ⟨rfl, ul', u1, mCost (c2 := 0) (s2 := 0) u5 (by omega) (by omega)⟩)))
  rw [if_neg b2, if_neg b2]
  by_cases b3 : a = 3
  · rw [if_pos b3, if_pos b3]
    obtain ⟨j, j1, j2⟩ := stO_some hok.1.1 hgl.1
    refine w_pos (gC_at c1) ?_
    unfold hF_X0_stateNow
    refine w_cB (w_pos (gC_at c1) (w_call (mach_d hV h00) ?_))
    rintro r G1 n1 s1 ⟨mo, ul', rfl, u1, u2, u3, u4, u5⟩
    obtain ⟨d0', da', dm', ia', ro', st', tx', po', to', lo', ch', f', F', v1, v2, -, -, -, -, v7, -, -, -, -, -, -, v14⟩ := u2
    refine w_xI v1 rfl rfl (w_some (w_pos v7.gC ?_))
    rw [v2]
    refine w_call0 (v7.stateOf hV v14 hgl.1 j1) (w_ret (w_ret ⟨?_, ul', u1, mCost (c2 := 0) (s2 := 0) u5 (by omega) (by omega)⟩))
    show nI j = nI (stN S)
    unfold stN
    rw [j1]; rfl
  rw [if_neg b3, if_neg b3]
  by_cases b4 : a = 4
  · rw [if_pos b4, if_pos b4]
    exact w_xR c1 rfl rfl (w_some (w_xR q1 rfl rfl (w_some (w_xI p1 rfl rfl (w_ret ⟨rfl, Ct.same h00 rfl rfl⟩)))))
  rw [if_neg b4, if_neg b4]
  by_cases b5 : a = 5
  · rw [if_pos b5, if_pos b5]
    exact w_xR c1 rfl rfl (w_some (w_xR q1 rfl rfl (w_some (w_xI p1 rfl rfl (w_ret ⟨rfl, Ct.same h00 rfl rfl⟩)))))
  rw [if_neg b5, if_neg b5]
  by_cases b6 : a = 6
  · rw [if_pos b6, if_pos b6]; exact w_xI c1 rfl rfl (w_ret ⟨rfl, Ct.same h00 rfl rfl⟩)
  rw [if_neg b6, if_neg b6]
  by_cases b7 : a = 7
  · rw [if_pos b7, if_pos b7]; exact w_xI c1 rfl rfl (w_ret ⟨rfl, Ct.same h00 rfl rfl⟩)
  rw [if_neg b7, if_neg b7]
  by_cases b8 : a = 8
  · rw [if_pos b8, if_pos b8]
    exact w_xR c1 rfl rfl (w_some (w_pos (by obtain ⟨ml, ff, z, -⟩ := g1; exact gC_at z) (w_call0 (sb_length g1) (w_ret ⟨rfl, Ct.same h00 rfl rfl⟩))))
  rw [if_neg b8, if_neg b8]
  by_cases b9 : a = 9
  · rw [if_pos b9, if_pos b9]
    refine w_xI c1 rfl rfl (w_ret ⟨?_, Ct.same h00 rfl rfl⟩)
    rw [← e1, List.length_map]
  rw [if_neg b9, if_neg b9]
  exact w_ret ⟨rfl, Ct.same h00 rfl rfl⟩
end X

/-! PURE 75: contracts: undo, keep, back -/
section X
variable {V : HEn} {xo : Nat}
theorem Wc.cst {G G' : Gh} {nx d0 da ia ro rd tx : Nat} {tg : Nat → Nat} {st : Nat × Nat × Nat} {k0 : Dk} {pl : List (Nat × Dk)} {i0 i1 : Option (Nat × Dk)} {txt : List Nat} {U : Nat → Prop} (h : Wc V G nx xo tg d0 da ia ro rd tx st k0 pl i0 i1 txt U) (hk : ∀ b, b ≠ xo → G' b = G b) : ∀ a, a < V.1 → G' a = G a := fun a ha => hk a (by have := h.2.2.1.2.2; omega)
theorem ct_undo (hV : 1200 ≤ V.2.2.2.2) : Ct V xo (fun G nx => hF_X0_undo V G nx xo) spUndo := by
  rintro G nx S ul h0
  have h00 := h0
  obtain ⟨tg, d0, da, ia, ro, rd, tx, pl, i0, i1, rws, hW, hR, e1, e2, e3, hu⟩ := h0
  obtain ⟨c1, c2, c3⟩ := hW.2.2.1
  obtain ⟨fd, d1, d2, d3⟩ := hW.2.2.2.1
  obtain ⟨fi, w1, w2, w3, w4⟩ := hW.2.2.2.2.1
  have hl := hW.2.2.2.2.2.2.2.2.2.2
  have hdax := hW.heads.2.2.2.2.2.2.2.2.1
  have hiax := hW.heads.2.2.2.2.2.2.2.2.2.1
  show wH (hF_X0_undo V G nx xo) (fun r G' c s => r = (spUndo S).1 ∧ ∃ ul', Wd V G' (nx + c) xo (spUndo S).2 ul' ∧ Cost c s ul.length ul'.length)
  unfold hF_X0_undo
  rcases List.eq_nil_or_concat pl with e | ⟨dl, last, e⟩
  · subst e
    have es : spUndo S = (-2, S) := by unfold spUndo; rw [← e1]; rfl
    rw [es]
    exact w_xI c1 rfl rfl (w_pos rfl (w_ret ⟨rfl, Ct.same h00 rfl rfl⟩))
  · rw [List.concat_eq_append] at e
    subst e
    have hll : (dl ++ [last]).length = dl.length + 1 := by simp
    have es : spUndo S = (nI dl.length, (last.2, dl.map Prod.snd, S.2.2)) := by
      unfold spUndo
      rw [← e1]
      simp
    rw [es]
    refine w_xI c1 rfl rfl (w_neg (fun z => ?_) (w_xI c1 rfl rfl ?_))
    · rw [hll] at z
      have := (i_zero (by omega)).mp z
      omega
    rw [hll, nI_pred]
    refine w_xF (fs' := [va_rf (some d0), va_rf (some da), .int (nI dl.length), va_rf (some ia), va_rf (some ro), .int (nI (gLast S.1.1 (0, 0, 0) S.1.2).1), .int (nI (gLast S.1.1 (0, 0, 0) S.1.2).2.1), .int (nI (gLast S.1.1 (0, 0, 0) S.1.2).2.2), va_rf (some tx)]) c1 rfl (Nat.le_of_ble_eq_true rfl) c3 rfl ?_
    refine w_xR (gset_eq _ _ _) rfl rfl (w_xI (gset_eq _ _ _) rfl rfl (w_some ?_))
    refine w_rdR (by rw [gset_ne _ _ hdax]; exact d1) (gd_nI (show dl.length < 6 by omega) (by omega)) ?_
    rw [d3 dl.length (by omega)]
    simp only [List.getElem_concat_length]
    refine w_pos (gC_at (gset_eq _ _ _)) ?_
    unfold hF_X0_becomes
    refine w_cB (w_xF (fs' := [va_rf (some last.1), va_rf (some da), .int (nI dl.length), va_rf (some ia), va_rf (some ro), .int (nI (gLast S.1.1 (0, 0, 0) S.1.2).1), .int (nI (gLast S.1.1 (0, 0, 0) S.1.2).2.1), .int (nI (gLast S.1.1 (0, 0, 0) S.1.2).2.2), va_rf (some tx)]) (gset_eq _ _ _) rfl (Nat.le_of_ble_eq_true rfl) c3 rfl (w_pos (gC_at (gset_eq _ _ _)) ?_))
    have sub : ∀ e ∈ dsk last.1 last.2 dl i0 i1, e ∈ dsk d0 S.1 (dl ++ [last]) i0 i1 := fun e he => by
      rw [dsk_snoc]
      rw [dsk_app] at he
      rcases List.mem_append.mp he with z | z
      · rcases List.mem_cons.mp z with y | y
        · exact List.mem_append.mpr (Or.inr (List.mem_cons.mpr (Or.inl y)))
        · exact List.mem_append.mpr (Or.inl (List.mem_cons.mpr (Or.inr y)))
      · exact List.mem_append.mpr (Or.inr (List.mem_cons.mpr (Or.inr z)))
    have hnd : ((dsk last.1 last.2 dl i0 i1).map Prod.fst).Nodup := by
      have h2 := hW.2.2.2.2.2.2.2.2.2.1
      rw [dsk_snoc] at h2
      have h3 : ((dl ++ last :: (i0.toList ++ i1.toList)).map Prod.fst).Nodup := List.Nodup.sublist (List.Sublist.map _ (List.sublist_cons_self (d0, S.1) _)) h2
      rw [dsk_app]
      exact ((List.perm_middle.map Prod.fst).nodup_iff).mp h3
    have hW2 := hW.setx (G' := gset (gset G xo (.inr (0, [va_rf (some d0), va_rf (some da), .int (nI dl.length), va_rf (some ia), va_rf (some ro), .int (nI (gLast S.1.1 (0, 0, 0) S.1.2).1), .int (nI (gLast S.1.1 (0, 0, 0) S.1.2).2.1), .int (nI (gLast S.1.1 (0, 0, 0) S.1.2).2.2), va_rf (some tx)]))) xo (.inr (0, [va_rf (some last.1), va_rf (some da), .int (nI dl.length), va_rf (some ia), va_rf (some ro), .int (nI (gLast S.1.1 (0, 0, 0) S.1.2).1), .int (nI (gLast S.1.1 (0, 0, 0) S.1.2).2.1), .int (nI (gLast S.1.1 (0, 0, 0) S.1.2).2.2), va_rf (some tx)]))) (d0' := last.1) (k0' := last.2) (st' := gLast S.1.1 (0, 0, 0) S.1.2) (i0' := i0) (i1' := i1) (pl' := dl) (fd := fd) (fi := fi) (fun b b1 b2 b3 => by rw [gset_ne _ _ b1, gset_ne _ _ b1]) (gset_eq _ _ _) (by rw [gset_ne _ _ hdax, gset_ne _ _ hdax]; exact d1) (fun i hi => by rw [d3 i (by omega), List.getElem_append_left hi]) (by rw [gset_ne _ _ hiax, gset_ne _ _ hiax]; exact w1) w3 w4 (fun e he => hW.2.2.2.2.2.2.2.2.1 e (sub e he)) hnd (by omega)
    refine w_call (goes_d hV hW2 hu) ?_
    rintro - G3 n3 s3 ⟨z1, z2, z3, -⟩
    have hz3 := z3
    obtain ⟨tg3, d3', da3, ia3, ro3, rd3, tx3, pl3, i03, i13, rws3, hW3, hR3, e13, -⟩ := z3
    obtain ⟨c13, -⟩ := hW3.2.2.1
    have hlen : pl3.length = dl.length := by
      have := congrArg List.length e13
      simpa using this
    refine w_ret (w_xI c13 rfl rfl (w_ret ⟨by rw [hlen], ul, ?_, by unfold Cost; omega⟩))
    rw [e2, e3] at hz3
    exact hz3
theorem ct_keep {a : Int32} (hV : 1200 ≤ V.2.2.2.2) : Ct V xo (fun G nx => hF_X0_keep V G nx xo a) (fun S => spKeep S a) := by
  rintro G nx S ul h0
  have h00 := h0
  obtain ⟨tg, d0, da, ia, ro, rd, tx, pl, i0, i1, rws, hW, hR, e1, e2, e3, hu⟩ := h0
  obtain ⟨c1, c2, c3⟩ := hW.2.2.1
  have hhd := hW.heads
  have hx0 := hhd.1
  have hr0 := hhd.2.1
  have rx := hhd.2.2.2.1
  have hdax := hhd.2.2.2.2.2.2.2.2.1
  have hiax := hhd.2.2.2.2.2.2.2.2.2.1
  have hdaia : da ≠ ia := hW.2.2.2.2.2.1
  have he : (d0, S.1) ∈ dsk d0 S.1 pl i0 i1 := by simp [dsk]
  have dr := (hhd.2.2.2.2.2.2.2.2.2.2.2.2 _ he).2.2.1
  have hfr := hW.fresh
  simp only at dr
  show wH (hF_X0_keep V G nx xo a) (fun r G' c s => r = (spKeep S a).1 ∧ ∃ ul', Wd V G' (nx + c) xo (spKeep S a).2 ul' ∧ Cost c s ul.length ul'.length)
  unfold hF_X0_keep spKeep
  refine w_call0 (isIn_at (n := 2) (by decide)) ?_
  cases ea : iR a 2 with
  | none => exact w_pos rfl (w_ret ⟨rfl, Ct.same h00 rfl rfl⟩)
  | some v =>
    obtain ⟨rfl, hv⟩ := iR_some (by decide) ea
    have hdk := (hW.2.2.2.2.2.2.2.2.1 _ he).1
    refine w_neg (isS1 v) (w_xR c1 rfl rfl (w_xR c1 rfl rfl (w_some (w_pos hdk.gC (w_call (copy_w (e := (d0, S.1)) hV hW he) ?_)))))
    rintro r G1 c s ⟨rfl, u1, u2, u3, tg1, u4, u5, u6, u7, u8⟩
    obtain ⟨fd1, y1, y2, y3⟩ := u5.2.2.2.1
    obtain ⟨fi1, w1, w2, w3, w4⟩ := u5.2.2.2.2.1
    obtain ⟨x1, x2, x3⟩ := u5.2.2.1
    obtain ⟨po, to, q1, -⟩ := id u6
    have iab : V.1 ≤ ia := (u5.2.1 ia (by rw [w2]; exact hx0)).1
    refine w_some (w_pos (gokA_at q1 (by simp) (by decide)) (w_wrR w1 iab (gd_nI hv (by omega)) ?_))
    -- the world with the new image
    have fin : ∀ (i0' i1' : Option (Nat × Dk)), va_up fi1 v (some nx) 0 = i0'.map Prod.fst → va_up fi1 v (some nx) 1 = i1'.map Prod.fst → (∀ e ∈ dsk d0 S.1 pl i0' i1', e ∈ dsk d0 S.1 pl i0 i1 ∨ e = (nx, S.1)) → ((dsk d0 S.1 pl i0' i1').map Prod.fst).Nodup → (i0'.map Prod.snd, i1'.map Prod.snd) = (if v = 0 then (some S.1, S.2.2.1.2) else (S.2.2.1.1, some S.1)) →
        wH ((xR (gset G1 ia (.inl (V.2.1 5, 2, .inr (.inr (.inr (.inr (va_up fi1 v (some nx)))))))) xo fl_RunWatch_now).bind fun r128 => (r128).bind fun a130 => (xR (gset G1 ia (.inl (V.2.1 5, 2, .inr (.inr (.inr (.inr (va_up fi1 v (some nx)))))))) a130 fl_RunWatch_Desk_rows).bind fun r132 => (r132).bind fun a134 => if gC (gset G1 ia (.inl (V.2.1 5, 2, .inr (.inr (.inr (.inr (va_up fi1 v (some nx)))))))) a134 10 = true then cB (hF_J4_size V (gset G1 ia (.inl (V.2.1 5, 2, .inr (.inr (.inr (.inr (va_up fi1 v (some nx)))))))) (nx + 0 + c) a134) fun y137 G138 c139 => some (y137, G138, 0, 0) else none) (fun r' G' c' s' => r' = nI S.1.2.length ∧ ∃ ul', Wd V G' (nx + (c + c')) xo (S.1, S.2.1, (if v = 0 then (some S.1, S.2.2.1.2) else (S.2.2.1.1, some S.1)), S.2.2.2) ul' ∧ Cost (c + c') (s + s') ul.length ul'.length) := by
      intro i0' i1' k0 k1 k2 k3 k4
      generalize hG2 : gset G1 ia (.inl (V.2.1 5, 2, .inr (.inr (.inr (.inr (va_up fi1 v (some nx))))))) = G2
      have kk : ∀ b, b ≠ ia → G2 b = G1 b := fun b hb => by rw [← hG2]; exact gset_ne _ _ hb
      have hW2 : Wc V G2 (nx + c) xo tg1 d0 da ia ro rd tx (gLast S.1.1 (0, 0, 0) S.1.2) S.1 pl i0' i1' S.2.2.2 (fun a => a ∈ ul) := u5.setx (fd := fd1) (fi := va_up fi1 v (some nx)) (fun b b1 b2 b3 => kk b b3) (by rw [kk xo (Ne.symm hiax)]; exact x1) (by rw [kk da hdaia]; exact y1) y3 (by rw [← hG2]; exact gset_eq _ _ _) k0 k1 (fun e he' => by
        rcases k2 e he' with z | z
        · exact u5.2.2.2.2.2.2.2.2.1 e z
        · rw [z]; exact ⟨u6, (hW.2.2.2.2.2.2.2.2.1 _ he).2⟩) k3 hW.2.2.2.2.2.2.2.2.2.2
      obtain ⟨x1', -⟩ := hW2.2.2.1
      obtain ⟨po2, to2, v1, v2, v3, v4, v5, v6, -⟩ := hW2.now
      refine w_xR x1' rfl rfl (w_some (w_xR v1 rfl rfl (w_some (w_pos v2.gC (w_call0 v2.size (w_ret ⟨rfl, ul, ⟨tg1, d0, da, ia, ro, rd, tx, pl, i0', i1', rws, hW2, ?_, e1, ?_, ?_, hu⟩, by unfold Cost; omega⟩))))))
      · have rl := hW.2.1
        have t2 := hW.2.2.2.2.2.2.1.2.1
        have t3 := hW.2.2.2.2.2.2.1.2.2
        have kr : ∀ a, tg a = ro → G2 a = G a := fun a ha => by
          rw [kk a (fun e => rx (by rw [← ha, e]; exact hW.2.2.2.2.1.choose_spec.2.1))]
          exact u7 a (by rw [ha]; exact hr0) (by rw [ha]; exact Ne.symm dr)
        have kc : ∀ a, a < V.1 → G2 a = G a := fun a ha => by
          rw [kk a (by omega)]; exact u8 a ha
        have hk := hR.keep kr kc t2 t3
        exact ⟨hk.1, fun a ha => by
          obtain ⟨z1, z2, z3⟩ := hk.2.1 a ha
          exact ⟨by rw [u4 a (rl a (by rw [z1]; exact hr0)).2]; exact z1, z2, z3⟩, hk.2.2⟩
      · have := congrArg Prod.fst k4
        simp only at this
        rw [this]
      · have := congrArg Prod.snd k4
        simp only at this
        rw [this]
    have hn := hW.2.2.2.2.2.2.2.2.2.1
    rw [dsk_app, List.map_append] at hn hfr
    have d0m : ∀ x, x ∈ dsk d0 S.1 pl i0 i1 → x.1 ≠ nx := fun x hx e => hW.fresh (e ▸ List.mem_map_of_mem hx)
    by_cases cv : v = 0
    · subst cv
      refine fin (some (nx, S.1)) i1 rfl w4 (fun e he' => ?_) ?_ (by rw [if_pos rfl, e3]; rfl)
      · rw [dsk_app] at he' ⊢
        rcases List.mem_append.mp he' with z | z
        · exact Or.inl (List.mem_append.mpr (Or.inl z))
        · rcases List.mem_append.mp z with y | y
          · exact Or.inr (by simpa using y)
          · exact Or.inl (List.mem_append.mpr (Or.inr (List.mem_append.mpr (Or.inr y))))
      · have : dsk d0 S.1 pl (some (nx, S.1)) i1 = ((d0, S.1) :: pl) ++ (nx, S.1) :: i1.toList := by simp [dsk]
        rw [this, List.map_append, List.map_cons]
        have sl : (((d0, S.1) :: pl).map Prod.fst ++ i1.toList.map Prod.fst).Sublist (((d0, S.1) :: pl).map Prod.fst ++ (i0.toList ++ i1.toList).map Prod.fst) := List.Sublist.append (List.Sublist.refl _) (by rw [List.map_append]; exact List.sublist_append_right _ _)
        exact nd_ins (List.Nodup.sublist sl hn) (fun w => hfr (sl.subset w))
    · have hv1 : v = 1 := by omega
      subst hv1
      refine fin i0 (some (nx, S.1)) w3 rfl (fun e he' => ?_) ?_ (by rw [if_neg cv, e2]; rfl)
      · rw [dsk_app] at he' ⊢
        rcases List.mem_append.mp he' with z | z
        · exact Or.inl (List.mem_append.mpr (Or.inl z))
        · rcases List.mem_append.mp z with y | y
          · exact Or.inl (List.mem_append.mpr (Or.inr (List.mem_append.mpr (Or.inl y))))
          · exact Or.inr (by simpa using y)
      · have : dsk d0 S.1 pl i0 (some (nx, S.1)) = (((d0, S.1) :: pl) ++ i0.toList) ++ (nx, S.1) :: [] := by simp [dsk]
        rw [this, List.map_append, List.map_cons]
        have sl : (((((d0, S.1) :: pl) ++ i0.toList).map Prod.fst) ++ []).Sublist (((d0, S.1) :: pl).map Prod.fst ++ (i0.toList ++ i1.toList).map Prod.fst) := by
          rw [List.append_nil, List.map_append]
          exact List.Sublist.append (List.Sublist.refl _) (by rw [List.map_append]; exact List.sublist_append_left _ _)
        exact nd_ins (List.Nodup.sublist sl hn) (fun w => hfr (sl.subset w))
theorem ct_back {a : Int32} (hV : 1200 ≤ V.2.2.2.2) : Ct V xo (fun G nx => hF_X0_back V G nx xo a) (fun S => spBack S a) := by
  rintro G nx S ul h0
  have h00 := h0
  obtain ⟨tg, d0, da, ia, ro, rd, tx, pl, i0, i1, rws, hW, hR, e1, e2, e3, hu⟩ := h0
  obtain ⟨c1, c2, c3⟩ := hW.2.2.1
  obtain ⟨fi, w1, w2, w3, w4⟩ := hW.2.2.2.2.1
  have hhd := hW.heads
  have hdax := hhd.2.2.2.2.2.2.2.2.1
  have hiax := hhd.2.2.2.2.2.2.2.2.2.1
  have hfr := hW.fresh
  show wH (hF_X0_back V G nx xo a) (fun r G' c s => r = (spBack S a).1 ∧ ∃ ul', Wd V G' (nx + c) xo (spBack S a).2 ul' ∧ Cost c s ul.length ul'.length)
  unfold hF_X0_back spBack
  refine w_call0 (isIn_at (n := 2) (by decide)) ?_
  cases ea : iR a 2 with
  | none => exact w_pos rfl (w_ret ⟨rfl, Ct.same h00 rfl rfl⟩)
  | some v =>
    obtain ⟨rfl, hv⟩ := iR_some (by decide) ea
    simp only
    have hsel : fi v = (if v = 0 then i0 else i1).map Prod.fst := by
      by_cases cv : v = 0
      · rw [cv, w3]; rfl
      · have : v = 1 := by omega
        rw [this, w4]; rfl
    have hsp : (if v = 0 then S.2.2.1.1 else S.2.2.1.2) = (if v = 0 then i0 else i1).map Prod.snd := by
      rw [← e2, ← e3]
      by_cases cv : v = 0
      · rw [if_pos cv, if_pos cv]
      · rw [if_neg cv, if_neg cv]
    rw [hsp]
    refine w_neg (isS1 v) (w_xR c1 rfl rfl (w_some (w_rdR w1 (gd_nI hv (by omega)) ?_)))
    rw [hsel]
    cases ei : (if v = 0 then i0 else i1) with
    | none => exact w_pos rfl (w_ret ⟨rfl, Ct.same h00 rfl rfl⟩)
    | some e =>
      have he : e ∈ dsk d0 S.1 pl i0 i1 := by
        rw [dsk_app]
        refine List.mem_append.mpr (Or.inr (List.mem_append.mpr ?_))
        by_cases cv : v = 0
        · rw [if_pos cv] at ei; exact Or.inl (by rw [ei]; simp)
        · rw [if_neg cv] at ei; exact Or.inr (by rw [ei]; simp)
      have hdk := (hW.2.2.2.2.2.2.2.2.1 _ he).1
      refine w_neg (by simp) (w_xR c1 rfl rfl (w_some (w_rdR w1 (gd_nI hv (by omega)) ?_)))
      rw [hsel, ei]
      refine w_some (w_pos hdk.gC (w_call (copy_w (e := e) hV hW he) ?_))
      rintro r G1 c s ⟨rfl, u1, u2, u3, tg1, u4, u5, u6, u7, u8⟩
      obtain ⟨fd1, y1, y2, y3⟩ := u5.2.2.2.1
      obtain ⟨fi1, m1, m2, m3, m4⟩ := u5.2.2.2.2.1
      obtain ⟨x1, x2, x3⟩ := u5.2.2.1
      refine w_pos (gC_at x1) ?_
      unfold hF_X0_becomes
      refine w_cB (w_xF (fs' := [va_rf (some nx), va_rf (some da), .int (nI pl.length), va_rf (some ia), va_rf (some ro), .int (nI (gLast S.1.1 (0, 0, 0) S.1.2).1), .int (nI (gLast S.1.1 (0, 0, 0) S.1.2).2.1), .int (nI (gLast S.1.1 (0, 0, 0) S.1.2).2.2), va_rf (some tx)]) x1 rfl (Nat.le_of_ble_eq_true rfl) c3 rfl (w_pos (gC_at (gset_eq _ _ _)) ?_))
      have hW2 := u5.setx (G' := gset G1 xo (.inr (0, [va_rf (some nx), va_rf (some da), .int (nI pl.length), va_rf (some ia), va_rf (some ro), .int (nI (gLast S.1.1 (0, 0, 0) S.1.2).1), .int (nI (gLast S.1.1 (0, 0, 0) S.1.2).2.1), .int (nI (gLast S.1.1 (0, 0, 0) S.1.2).2.2), va_rf (some tx)]))) (d0' := nx) (k0' := e.2) (st' := gLast S.1.1 (0, 0, 0) S.1.2) (i0' := i0) (i1' := i1) (pl' := pl) (fd := fd1) (fi := fi1) (fun b b1 b2 b3 => by rw [gset_ne _ _ b1]) (gset_eq _ _ _) (by rw [gset_ne _ _ hdax]; exact y1) y3 (by rw [gset_ne _ _ hiax]; exact m1) m3 m4 (fun e' he' => by
        rcases List.mem_cons.mp (show e' ∈ (nx, e.2) :: (pl ++ i0.toList ++ i1.toList) from he') with z | z
        · rw [z]; exact ⟨u6, (hW.2.2.2.2.2.2.2.2.1 _ he).2⟩
        · exact u5.2.2.2.2.2.2.2.2.1 e' (List.mem_cons.mpr (Or.inr z))) (by
        refine List.nodup_cons.mpr ⟨fun z => hfr (List.mem_cons.mpr (Or.inr z)), ?_⟩
        exact (List.nodup_cons.mp (show (d0 :: (pl ++ i0.toList ++ i1.toList).map Prod.fst).Nodup from hW.2.2.2.2.2.2.2.2.2.1)).2) hW.2.2.2.2.2.2.2.2.2.2
      refine w_call (goes_w hV hW2) ?_
      rintro - G3 n3 s3 ⟨z1, z2, tg3, rd3, rws3, z3, z4, -⟩
      obtain ⟨c13, -⟩ := z3.2.2.1
      obtain ⟨fd3, y13, y23, y33⟩ := z3.2.2.2.1
      obtain ⟨fi3, m13, m23, m33, m43⟩ := z3.2.2.2.2.1
      refine w_ret (w_xF (fs' := [va_rf (some nx), va_rf (some da), .int (nI 0), va_rf (some ia), va_rf (some ro), .int (nI (gLast e.2.1 (0, 0, 0) e.2.2).1), .int (nI (gLast e.2.1 (0, 0, 0) e.2.2).2.1), .int (nI (gLast e.2.1 (0, 0, 0) e.2.2).2.2), va_rf (some tx)]) c13 rfl (Nat.le_of_ble_eq_true rfl) c3 rfl ?_)
      have hW4 := z3.setx (G' := gset G3 xo (.inr (0, [va_rf (some nx), va_rf (some da), .int (nI 0), va_rf (some ia), va_rf (some ro), .int (nI (gLast e.2.1 (0, 0, 0) e.2.2).1), .int (nI (gLast e.2.1 (0, 0, 0) e.2.2).2.1), .int (nI (gLast e.2.1 (0, 0, 0) e.2.2).2.2), va_rf (some tx)]))) (d0' := nx) (k0' := e.2) (st' := gLast e.2.1 (0, 0, 0) e.2.2) (i0' := i0) (i1' := i1) (pl' := []) (fd := fd3) (fi := fi3) (fun b b1 b2 b3 => by rw [gset_ne _ _ b1]) (gset_eq _ _ _) (by rw [gset_ne _ _ hdax]; exact y13) (fun i hi => absurd hi (Nat.not_lt_zero _)) (by rw [gset_ne _ _ hiax]; exact m13) m33 m43 (fun e' he' => z3.2.2.2.2.2.2.2.2.1 e' (by
        rcases List.mem_cons.mp (show e' ∈ (nx, e.2) :: ([] ++ i0.toList ++ i1.toList) from he') with z | z
        · exact List.mem_cons.mpr (Or.inl z)
        · refine List.mem_cons.mpr (Or.inr ?_)
          rw [List.append_assoc]
          exact List.mem_append.mpr (Or.inr z))) (by
        refine List.Nodup.sublist (List.Sublist.map _ ?_) z3.2.2.2.2.2.2.2.2.2.1
        rw [dsk_app, dsk_app]
        exact List.Sublist.append (List.Sublist.cons_cons _ (List.nil_sublist _)) (List.Sublist.refl _)) (Nat.zero_le _)
      have hhd3 := z3.heads
      obtain ⟨x1', -⟩ := hW4.2.2.1
      obtain ⟨po2, to2, v1, v2, v3, v4, v5, v6, -⟩ := hW4.now
      refine w_xR x1' rfl rfl (w_some (w_xR v1 rfl rfl (w_some (w_pos v2.gC (w_call0 v2.size (w_ret ⟨rfl, ul, ⟨tg3, nx, da, ia, ro, rd3, tx, [], i0, i1, rws3, ?_, ?_, rfl, e2, e3, hu⟩, by unfold Cost; omega⟩))))))
      · rw [show nx + (c + (n3 + 0 + 0)) = nx + 0 + c + n3 by omega]
        exact hW4
      · exact z4.keep (fun a ha => gset_ne _ _ (z3.sepx (by rw [ha]; exact hhd3.2.2.2.1))) (fun a ha => gset_ne _ _ (by omega)) z3.2.2.2.2.2.2.1.2.1 z3.2.2.2.2.2.2.1.2.2
end X

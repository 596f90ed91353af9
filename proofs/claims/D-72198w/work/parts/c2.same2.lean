/-! PURE 79: alarm, signal, same: contracts -/
theorem gRows_RwV {p : Pn} (hp : PnOk p) {l : List (Nat × Nat)} (hl : ∀ y ∈ l, y.2 ≤ 4) : ∀ r ∈ gRows p (0, 0, 0) l, RwV r := by
  intro r hr
  obtain ⟨h1, h2, h3⟩ := gRows_ok hp (st0_ok hp) hl r hr
  refine ⟨?_, h2, h3⟩
  obtain ⟨i, hi, e⟩ := List.getElem_of_mem hr
  rw [gRows_len] at hi
  obtain ⟨_, g1, g2⟩ := gRows_at (p := p) (st := (0, 0, 0)) hi
  rw [← e, g2]
  exact hl _ (getD_mem hi).2
theorem cd_ok {c : Nat} (h : cdOk c = true) : RuOk (cdR c) := by
  have := of_decide_eq_true h
  exact ⟨this.2.2.1, this.2.2.2.1, this.2.1, this.2.2.2.2.1, this.2.2.2.2.2⟩
section X
variable {V : HEn} {xo : Nat}
theorem time_ct {f : Rw → Bool} {tb : Nat} {k : Int32} {G : Gh} {nx : Nat} {S : Sp} {ul : List Nat} (hV : 1200 ≤ V.2.2.2.2) (hd : ∀ (G : Gh) (nx a : Nat) (r : Rw), G a = some (rcell r) → RwV r → hD_X0_time_45 V G nx tb (some a) = some (if f r then 1 else 0, G, 0, 0)) (h : Wd V G nx xo S ul) : wH (hF_X0_time V G nx xo k (some tb)) (fun r G' c s => r = spTime f S k ∧ Wd V G' (nx + c) xo S ul ∧ c ≤ 1 ∧ s ≤ 4) := by
  have h00 := h
  obtain ⟨tg, d0, da, ia, ro, rd, tx, pl, i0, i1, rws, hW, hR, e1, e2, e3, hu⟩ := h
  obtain ⟨c1, c2, c3⟩ := hW.2.2.1
  have hok := (hW.2.2.2.2.2.2.2.2.1 (d0, S.1) (by simp [dsk])).2
  have hb := hW.1.2.1
  have hr0 := hW.heads.2.1
  obtain ⟨r1, r2, r3, r4⟩ := hR
  have rol := (hW.2.1 ro (by rw [hW.2.2.2.2.2.2.1.2.1]; exact hr0)).2
  have rdl : rd < nx := by
    rcases hW.2.2.2.2.2.2.1.2.2 with w | w
    · exact (hW.2.1 rd (by rw [w]; exact hr0)).2
    · omega
  have rwl : ∀ a ∈ rws, a < nx := fun a ha => (hW.2.1 a (by rw [(r2 a ha).1]; exact hr0)).2
  have hl40 : (gRows S.1.1 (0, 0, 0) S.1.2).length ≤ 40 := by rw [gRows_len]; exact hok.2.2.1
  unfold hF_X0_time spTime
  by_cases c : (-1 : Int32) ≤ k
  · rw [if_pos c]
    refine w_xR c1 rfl rfl (w_some (w_pos (by obtain ⟨ml, nn, ff, z, -⟩ := r1; exact gC_at z) (w_call (al_iterator r1 hb rol) ?_)))
    rintro r G1 n1 s1 ⟨rfl, rfl, rfl, t1, t2⟩
    refine w_mono (time_loop (xo := xo) (it := nx) (ro := ro) (rd := rd) (rws := rws) (rl := gRows S.1.1 (0, 0, 0) S.1.2) hd hb ⟨by omega, by omega, fun a ha => by have := rwl a ha; omega⟩ hl40 (gRows_RwV hok.1 (fun y hy => (hok.2.2.2 y hy).2)) r3 (gRows S.1.1 (0, 0, 0) S.1.2) 0 V.2.2.2.2 G1 _ 0 (by omega) (r1.keep (t2 _ (by omega)) (t2 _ (by omega))) (fun j j1 j2 => by rw [t2 _ (by have := rwl _ (List.getElem_mem j1); omega)]; exact r4 j j1 j2) (by omega) rfl t1) ?_
    rintro q G2 n2 s2 ⟨rfl, rfl, rfl, w⟩
    exact ⟨by rw [if_pos c], h00.low (by omega) (fun b hb' => by rw [w b (by omega), t2 b (by omega)]), by omega, by omega⟩
  · rw [if_neg c]
    exact w_ret ⟨by rw [if_neg c], h00, by omega, by omega⟩
theorem ct_alarm {a : Int32} (hV : 1200 ≤ V.2.2.2.2) : Ct V xo (fun G nx => hF_X0_alarm V G nx xo a) (fun S => (spTime fAl S a, S)) := by
  rintro G nx S ul h0
  obtain ⟨tg, d0, da, ia, ro, rd, tx, pl, i0, i1, rws, hW, -⟩ := id h0
  obtain ⟨c1, -⟩ := hW.2.2.1
  show wH (hF_X0_alarm V G nx xo a) (fun r G' c s => r = spTime fAl S a ∧ ∃ ul', Wd V G' (nx + c) xo S ul' ∧ Cost c s ul.length ul'.length)
  unfold hF_X0_alarm
  refine w_pos (gC_at c1) (w_call (time_ct (f := fAl) hV (fun G nx a r hr hv => ?_) h0) ?_)
  · have hw : wH (hD_X0_time_45 V G nx (V.2.2.2.1 30) (some a)) (fun q G' c s => q = (if fAl r then 1 else 0) ∧ G' = G ∧ c = 0 ∧ s = 0) := by
      unfold hD_X0_time_45 hF_X0_lambda_alarm_0 hB_X0_lambda_alarm_0_12 fAl
      refine w_pos rfl (w_some (w_xI hr rfl rfl ?_))
      have := hv.2.1
      by_cases c : r.2.2.1 = 0
      · exact w_pos ((i_zero (by omega)).mpr c) (w_pos (by decide) (w_ret ⟨by simp [c], rfl, rfl, rfl⟩))
      · exact w_neg (fun z => c ((i_zero (by omega)).mp z)) (w_pos (by decide) (w_ret ⟨by simp [c], rfl, rfl, rfl⟩))
    obtain ⟨q, G', c, s, e, rfl, rfl, rfl, rfl⟩ := hw
    exact e
  · rintro r G1 n1 s1 ⟨rfl, u1, u2, u3⟩
    exact w_ret ⟨rfl, ul, u1, by unfold Cost; omega⟩
theorem ct_signal {a : Int32} (hV : 1200 ≤ V.2.2.2.2) (h31 : V.2.2.2.1 31 ≠ V.2.2.2.1 30) : Ct V xo (fun G nx => hF_X0_signal V G nx xo a) (fun S => (spTime fSg S a, S)) := by
  rintro G nx S ul h0
  obtain ⟨tg, d0, da, ia, ro, rd, tx, pl, i0, i1, rws, hW, -⟩ := id h0
  obtain ⟨c1, -⟩ := hW.2.2.1
  show wH (hF_X0_signal V G nx xo a) (fun r G' c s => r = spTime fSg S a ∧ ∃ ul', Wd V G' (nx + c) xo S ul' ∧ Cost c s ul.length ul'.length)
  unfold hF_X0_signal
  refine w_pos (gC_at c1) (w_call (time_ct (f := fSg) hV (fun G nx a r hr hv => ?_) h0) ?_)
  · have hw : wH (hD_X0_time_45 V G nx (V.2.2.2.1 31) (some a)) (fun q G' c s => q = (if fSg r then 1 else 0) ∧ G' = G ∧ c = 0 ∧ s = 0) := by
      unfold hD_X0_time_45 hF_X0_lambda_signal_1 fSg
      refine w_neg h31 (w_pos rfl (w_some (w_xI hr rfl rfl ?_)))
      have := hv.2.2
      by_cases c : r.2.2.2.2.2.2 = 0
      · rw [c]
        exact w_pos (by decide) (w_ret ⟨by simp; rfl, rfl, rfl, rfl⟩)
      · have e : r.2.2.2.2.2.2 = 1 := by omega
        rw [e]
        exact w_pos (by decide) (w_ret ⟨by simp; rfl, rfl, rfl, rfl⟩)
    obtain ⟨q, G', c, s, e, rfl, rfl, rfl, rfl⟩ := hw
    exact e
  · rintro r G1 n1 s1 ⟨rfl, u1, u2, u3⟩
    exact w_ret ⟨rfl, ul, u1, by unfold Cost; omega⟩
/-- rows and x, as same reads them -/
def SmC (V : HEn) (G : Gh) (N0 xo : Nat) (rl : List Rw) : Prop := ∃ (d0 da dm ia ro : Nat) (st : Nat × Nat × Nat) (tx rd : Nat) (rws : List Nat), G xo = some (xcell d0 da dm ia ro st tx) ∧ AL V G ro rd (rws.map some) ∧ rws.length = rl.length ∧ (∀ j (_ : j < rws.length) (_ : j < rl.length), G rws[j] = some (rcell rl[j])) ∧ xo < N0 ∧ ro < N0 ∧ rd < N0 ∧ (∀ a ∈ rws, a < N0) ∧ V.1 ≤ N0
theorem SmC.low {G G' : Gh} {N0 : Nat} {rl : List Rw} (h : SmC V G N0 xo rl) (hk : ∀ b, b < N0 → G' b = G b) : SmC V G' N0 xo rl := by
  obtain ⟨d0, da, dm, ia, ro, st, tx, rd, rws, h1, h2, h3, h4, h5, h6, h7, h8, h9⟩ := h
  exact ⟨d0, da, dm, ia, ro, st, tx, rd, rws, (hk _ h5).trans h1, h2.keep (hk _ h6) (hk _ h7), h3, fun j j1 j2 => by rw [hk _ (h8 _ (List.getElem_mem j1))]; exact h4 j j1 j2, h5, h6, h7, h8, h9⟩
theorem isSame_at {G : Gh} {N0 nx ru : Nat} {r : Ru} {rl : List Rw} (hV : 1200 ≤ V.2.2.2.2) (h : SmC V G N0 xo rl) (hn : N0 ≤ nx) (hr : RuAt G ru r) (hru : ru < nx) (hl : rl.length ≤ 40) (hv : ∀ r ∈ rl, RwV r) : wH (hF_X0_isSame V G nx xo (some ru)) (fun q G' c s => q = (if smL r 0 rl then 1 else 0) ∧ c = 1 ∧ s = 4 ∧ ∀ b, b < nx → G' b = G b) := by
  obtain ⟨d0, da, dm, ia, ro, st, tx, rd, rws, h1, h2, h3, h4, h5, h6, h7, h8, h9⟩ := h
  unfold hF_X0_isSame
  refine w_xR h1 rfl rfl (w_some (w_pos (by obtain ⟨ml, nn, ff, z, -⟩ := h2; exact gC_at z) (w_call (al_iterator h2 (by omega) (by omega)) ?_)))
  rintro x G1 n1 s1 ⟨rfl, rfl, rfl, t1, t2⟩
  refine w_mono (same_loop (xo := xo) (it := nx) (ro := ro) (rd := rd) (rws := rws) (rl := rl) (r := r) hr.2 (by omega) ⟨by omega, by omega, by omega, fun a ha => by have := h8 a ha; omega⟩ hl hv h3 rl 0 V.2.2.2.2 G1 _ 0 (by decide) (by omega) ⟨by rw [t2 _ (by omega)]; exact hr.1, hr.2⟩ (h2.keep (t2 _ (by omega)) (t2 _ (by omega))) (fun j j1 j2 => by rw [t2 _ (by have := h8 _ (List.getElem_mem j1); omega)]; exact h4 j j1 j2) (by omega) rfl t1) ?_
  rintro q G2 n2 s2 ⟨rfl, rfl, rfl, w⟩
  exact ⟨rfl, by omega, by omega, fun b hb => by rw [w b (by omega), t2 b (by omega)]⟩
theorem sm_loop {v N0 : Nat} {rl : List Rw} (hV : 1200 ≤ V.2.2.2.2) (hl : rl.length ≤ 40) (hv : ∀ r ∈ rl, RwV r) (hv2 : v < 2) : ∀ (j c fu : Nat) (G : Gh) (nx m : Nat) (f : Int32), c + j = 5000 → j + 1 ≤ fu → SmC V G N0 xo rl → N0 ≤ nx → m + j < 100000 → wH (hL_X0_same_21 V xo fu G nx (nI v) (nI m) f (nI c)) (fun q G' c' s => q = (if v = 0 then nI (smF (fun c => cdOk c && smL (cdR c) 0 rl) (List.range' c j) m f).1 else (smF (fun c => cdOk c && smL (cdR c) 0 rl) (List.range' c j) m f).2) ∧ c' ≤ 2 * ((List.range' c j).filter cdOk).length ∧ s ≤ 7 * ((List.range' c j).filter cdOk).length ∧ ∀ b, b < N0 → G' b = G b) := by
  intro j
  induction j with
  | zero =>
    intro c fu G nx m f hj hf hS hn hm
    obtain ⟨fu, rfl⟩ := Nat.exists_eq_succ_of_ne_zero (show fu ≠ 0 by omega)
    have : c = 5000 := by omega
    subst this
    rw [hL_X0_same_21]
    unfold hB_X0_same_110
    refine w_pos (Int32.le_refl _) ?_
    by_cases cv : v = 0
    · exact w_pos (by rw [cv]; rfl) (w_ret ⟨by rw [if_pos cv]; rfl, by omega, by omega, fun _ _ => rfl⟩)
    · exact w_neg (fun z => cv ((i_zero (by omega)).mp z)) (w_ret ⟨by rw [if_neg cv]; rfl, by omega, by omega, fun _ _ => rfl⟩)
  | succ j ih =>
    intro c fu G nx m f hj hf hS hn hm
    obtain ⟨fu, rfl⟩ := Nat.exists_eq_succ_of_ne_zero (show fu ≠ 0 by omega)
    have hc : c < 5000 := by omega
    have er : List.range' c (j + 1) = c :: List.range' (c + 1) j := List.range'_succ
    obtain ⟨k1, k2, k3⟩ := i_cd' hc
    rw [hL_X0_same_21, k1, k2, k3]
    refine w_neg (fun z => by have := (nI_leq (a := 5000) (b := c) (by omega) (by omega)).mp z; omega) (w_call0 (isOne_at hc) ?_)
    unfold hB_X0_same_95
    rw [er, nI_1]
    cases eo : cdOk c with
    | false =>
      refine w_pos rfl (w_mono (ih (c + 1) fu G _ m f (by omega) (by omega) hS (by omega) (by omega)) ?_)
      rintro q G' c' s ⟨w1, w2, w3, w4⟩
      refine ⟨?_, by rw [List.filter_cons_of_neg (by rw [eo]; decide)]; exact w2, by rw [List.filter_cons_of_neg (by rw [eo]; decide)]; exact w3, w4⟩
      rw [smF, eo]; exact w1
    | true =>
      refine w_neg (by decide) ?_
      unfold hF_X9_of hF_X6_init
      refine w_cB (w_tick (w_cB (w_xF (fs' := [.int (nI (c / 100 % 10)), .int 0, .int 0]) (gset_eq _ _ _) rfl (Nat.le_of_ble_eq_true rfl) (by obtain ⟨_, _, _, _, _, _, _, _, _, _, _, _, _, _, _, _, _, z⟩ := hS; omega) rfl (w_xF (fs' := [.int (nI (c / 100 % 10)), .int (nI (c / 1000)), .int 0]) (gset_eq _ _ _) rfl (Nat.le_of_ble_eq_true rfl) (by obtain ⟨_, _, _, _, _, _, _, _, _, _, _, _, _, _, _, _, _, z⟩ := hS; omega) rfl (w_xF (fs' := [.int (nI (c / 100 % 10)), .int (nI (c / 1000)), .int (nI (c % 100))]) (gset_eq _ _ _) rfl (Nat.le_of_ble_eq_true rfl) (by obtain ⟨_, _, _, _, _, _, _, _, _, _, _, _, _, _, _, _, _, z⟩ := hS; omega) rfl (w_ret (w_ret ?_)))))))
      generalize hG1 : gset (gset (gset (gset G (nx + 0) _) _ _) _ _) _ _ = G1
      have kk : ∀ b, b < nx → G1 b = G b := fun b hb => by
        have hne : b ≠ nx + 0 := by omega
        rw [← hG1, gset_ne _ _ hne, gset_ne _ _ hne, gset_ne _ _ hne, gset_ne _ _ hne]
      have hU : RuAt G1 nx (cdR c) := ⟨by rw [← hG1]; exact gset_eq _ _ _, cd_ok eo⟩
      have hS1 : SmC V G1 N0 xo rl := hS.low (fun b hb => kk b (by omega))
      clear hG1
      refine w_pos (by obtain ⟨d0, da, dm, ia, ro, st, tx, rd, rws, z, -⟩ := hS1; exact gC_at z) (w_call (isSame_at hV hS1 (by omega) hU (by omega) hl hv) ?_)
      rintro q G2 n2 s2 ⟨rfl, rfl, rfl, u1⟩
      have hS2 : SmC V G2 N0 xo rl := hS1.low (fun b hb => u1 b (by omega))
      have ef : (c :: List.range' (c + 1) j).filter cdOk = c :: (List.range' (c + 1) j).filter cdOk := List.filter_cons_of_pos eo
      cases es : smL (cdR c) 0 rl with
      | false =>
        refine w_pos rfl (w_mono (ih (c + 1) fu G2 _ m f (by omega) (by omega) hS2 (by omega) (by omega)) ?_)
        rintro q G' c' s ⟨w1, w2, w3, w4⟩
        refine ⟨?_, by rw [ef, List.length_cons]; omega, by rw [ef, List.length_cons]; omega, fun b hb => by rw [w4 b hb, u1 b (by omega), kk b (by omega)]⟩
        rw [smF, eo, es]; exact w1
      | true =>
        refine w_neg (by decide) ?_
        unfold hB_X0_same_91 hB_X0_same_95
        have es' : smF (fun c => cdOk c && smL (cdR c) 0 rl) (c :: List.range' (c + 1) j) m f = smF (fun c => cdOk c && smL (cdR c) 0 rl) (List.range' (c + 1) j) (m + 1) (if m = 0 then nI c else f) := by
          rw [smF, eo, es]; rfl
        by_cases c0 : m = 0
        · refine w_pos (by rw [c0]; rfl) ?_
          rw [nI_1, nI_1]
          refine w_mono (ih (c + 1) fu G2 _ (m + 1) (nI c) (by omega) (by omega) hS2 (by omega) (by omega)) ?_
          rintro q G' c' s ⟨w1, w2, w3, w4⟩
          refine ⟨?_, by rw [ef, List.length_cons]; omega, by rw [ef, List.length_cons]; omega, fun b hb => by rw [w4 b hb, u1 b (by omega), kk b (by omega)]⟩
          rw [es', if_pos c0]; exact w1
        · refine w_neg (fun z => c0 ((i_zero (by omega)).mp z)) ?_
          rw [nI_1, nI_1]
          refine w_mono (ih (c + 1) fu G2 _ (m + 1) f (by omega) (by omega) hS2 (by omega) (by omega)) ?_
          rintro q G' c' s ⟨w1, w2, w3, w4⟩
          refine ⟨?_, by rw [ef, List.length_cons]; omega, by rw [ef, List.length_cons]; omega, fun b hb => by rw [w4 b hb, u1 b (by omega), kk b (by omega)]⟩
          rw [es', if_neg c0]; exact w1
theorem cd_310 : ((List.range' 1000 4000).filter cdOk).length = 310 := by decide +kernel
theorem ct_same {a : Int32} (hV : 5000 ≤ V.2.2.2.2) : Ct V xo (fun G nx => hF_X0_same V G nx xo a) (fun S => (spSame S a, S)) := by
  rintro G nx S ul h0
  have h00 := h0
  obtain ⟨tg, d0, da, ia, ro, rd, tx, pl, i0, i1, rws, hW, hR, e1, e2, e3, hu⟩ := h0
  obtain ⟨c1, c2, c3⟩ := hW.2.2.1
  have hok := (hW.2.2.2.2.2.2.2.2.1 (d0, S.1) (by simp [dsk])).2
  have hb := hW.1.2.1
  have hr0 := hW.heads.2.1
  have hx0 := hW.heads.1
  obtain ⟨r1, r2, r3, r4⟩ := hR
  have rol := (hW.2.1 ro (by rw [hW.2.2.2.2.2.2.1.2.1]; exact hr0)).2
  have rdl : rd < nx := by
    rcases hW.2.2.2.2.2.2.1.2.2 with w | w
    · exact (hW.2.1 rd (by rw [w]; exact hr0)).2
    · omega
  have rwl : ∀ a ∈ rws, a < nx := fun a ha => (hW.2.1 a (by rw [(r2 a ha).1]; exact hr0)).2
  have hl40 : (gRows S.1.1 (0, 0, 0) S.1.2).length ≤ 40 := by rw [gRows_len]; exact hok.2.2.1
  have hS : SmC V G nx xo (gRows S.1.1 (0, 0, 0) S.1.2) := ⟨d0, da, pl.length, ia, ro, _, tx, rd, rws, c1, r1, r3, r4, (hW.2.1 xo (by rw [c2]; exact hx0)).2, rol, rdl, rwl, hb⟩
  show wH (hF_X0_same V G nx xo a) (fun r G' c s => r = spSame S a ∧ ∃ ul', Wd V G' (nx + c) xo S ul' ∧ Cost c s ul.length ul'.length)
  unfold hF_X0_same spSame
  refine w_call0 (isIn_at (n := 2) (by decide)) ?_
  cases ea : iR a 2 with
  | none => exact w_pos rfl (w_ret ⟨rfl, Ct.same h00 rfl rfl⟩)
  | some v =>
    obtain ⟨rfl, hv⟩ := iR_some (by decide) ea
    refine w_neg (isS1 v) (w_mono (sm_loop (v := v) (N0 := nx) (by omega) hl40 (gRows_RwV hok.1 (fun y hy => (hok.2.2.2 y hy).2)) hv 4000 1000 V.2.2.2.2 G _ 0 (-9) rfl (by omega) hS (by omega) (by omega)) ?_)
    rintro q G' c s ⟨w1, w2, w3, w4⟩
    rw [cd_310] at w2 w3
    exact ⟨w1, ul, h00.low (by omega) w4, by unfold Cost; omega⟩
end X

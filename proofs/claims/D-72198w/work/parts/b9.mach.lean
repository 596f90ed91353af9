/-! PURE 76: the machine of what stands now -/
theorem pcell_inj {lo ch lo' ch' : Nat} {p p' : Pn} {m m' : Option Nat} (h : pcell lo ch p m = pcell lo' ch' p' m') : lo = lo' ∧ va_rf m = va_rf m' := by
  simp only [Sum.inr.injEq, Prod.mk.injEq, List.cons.injEq, true_and, and_true] at h
  exact ⟨va_rf_inj h.1, h.2.2.2.2⟩
theorem va_rf_none {m : Option Nat} (h : va_rf m = va_rf none) : m = none := by
  cases m with
  | none => rfl
  | some x => cases h
/-- what the machine's methods read -/
def MR (V : HEn) (G : Gh) (N0 xo mo : Nat) (p : Pn) (pk : Nat) : Prop := ∃ (d0 da dm ia ro : Nat) (st : Nat × Nat × Nat) (tx po to lo ch : Nat) (f : Nat → Int32) (F : Nat → Prop), G xo = some (xcell d0 da dm ia ro st tx) ∧ st.1 = pk ∧ G d0 = some (.inr (1, [va_rf (some po), va_rf (some to)])) ∧ G po = some (pcell lo ch p (some mo)) ∧ G ch = some (.inl (V.2.1 0, 5, .inl f)) ∧ (∀ i, i < 5 → f i = nI (p.2.1.getD i 0)) ∧ MAt V G mo p.1 F ∧ (∀ a, F a → a < N0) ∧ xo < N0 ∧ d0 < N0 ∧ po < N0 ∧ ch < N0 ∧ V.1 ≤ N0 ∧ Cst V G
section X
variable {V : HEn} {G G' : Gh} {N0 nx xo mo pk : Nat} {p : Pn}
theorem MR.low (h : MR V G N0 xo mo p pk) (hk : ∀ b, b < N0 → G' b = G b) : MR V G' N0 xo mo p pk := by
  obtain ⟨d0, da, dm, ia, ro, st, tx, po, to, lo, ch, f, F, h1, h2, h3, h4, h5, h6, h7, h8, h9, h10, h11, h12, h13, h14⟩ := h
  exact ⟨d0, da, dm, ia, ro, st, tx, po, to, lo, ch, f, F, (hk _ h9).trans h1, h2, (hk _ h10).trans h3, (hk _ h11).trans h4, (hk _ h12).trans h5, h6, h7.keep (fun a ha => hk _ (h8 a ha)) (fun a ha => hk _ (by omega)), h8, h9, h10, h11, h12, h13, h14.keep (fun a ha => hk _ (by omega))⟩
theorem MR.at_ (h : MR V G N0 xo mo p pk) : ∃ F, MAt V G mo p.1 F := by
  obtain ⟨d0, da, dm, ia, ro, st, tx, po, to, lo, ch, f, F, h1, h2, h3, h4, h5, h6, h7, -⟩ := h
  exact ⟨F, h7⟩
theorem MR.gC (h : MR V G N0 xo mo p pk) : gC G xo 0 = true := by
  obtain ⟨d0, da, dm, ia, ro, st, tx, po, to, lo, ch, f, F, h1, -⟩ := h
  exact gC_at h1
theorem MR.machine (h : MR V G N0 xo mo p pk) : hF_X0_machine V G nx xo = some (some mo, G, 0, 0) := by
  obtain ⟨d0, da, dm, ia, ro, st, tx, po, to, lo, ch, f, F, h1, h2, h3, h4, -⟩ := h
  have hw : wH (hF_X0_machine V G nx xo) (fun q G' c s => q = some mo ∧ G' = G ∧ c = 0 ∧ s = 0) := by
    unfold hF_X0_machine
    refine w_xR h1 rfl rfl (w_some (w_xR h3 rfl rfl (w_some (w_pos (gC_at h4) ?_))))
    unfold hF_X2_machine hB_X2_machine_19
    exact w_cB (w_xR h4 rfl rfl (w_neg (by simp) (w_xR h4 rfl rfl (w_ret (w_ret ⟨rfl, rfl, rfl, rfl⟩)))))
  obtain ⟨q, G', c, s, e, rfl, rfl, rfl, rfl⟩ := hw
  exact e
theorem MR.stateNow {j : Nat} (hV : 1200 ≤ V.2.2.2.2) (h : MR V G N0 xo mo p pk) (hp : pk ∈ plcs p.1) (hj : stO p.1 pk = some j) : hF_X0_stateNow V G nx xo = some (nI j, G, 0, 0) := by
  have hm := h.machine (nx := nx)
  obtain ⟨d0, da, dm, ia, ro, st, tx, po, to, lo, ch, f, F, h1, h2, h3, h4, h5, h6, h7, h8, h9, h10, h11, h12, h13, h14⟩ := h
  have hw : wH (hF_X0_stateNow V G nx xo) (fun q G' c s => q = nI j ∧ G' = G ∧ c = 0 ∧ s = 0) := by
    unfold hF_X0_stateNow
    refine w_pos (gC_at h1) (w_call0 hm (w_xI h1 rfl rfl (w_some (w_pos h7.gC ?_))))
    rw [h2]
    exact w_call0 (h7.stateOf hV h14 hp hj) (w_ret ⟨rfl, rfl, rfl, rfl⟩)
  obtain ⟨q, G', c, s, e, rfl, rfl, rfl, rfl⟩ := hw
  exact e
theorem mach_d {S : Sp} {ul : List Nat} (hV : 1200 ≤ V.2.2.2.2) (h : Wd V G nx xo S ul) : wH (hF_X0_machine V G nx xo) (fun r G' c s => ∃ mo ul', r = some mo ∧ Wd V G' (nx + c) xo S ul' ∧ MR V G' (nx + c) xo mo S.1.1 (gLast S.1.1 (0, 0, 0) S.1.2).1 ∧ G' xo = G xo ∧ (∀ a, (∃ r, G a = some (rcell r)) → a < nx → G' a = G a) ∧ ((c = 0 ∧ s = 0 ∧ ul' = ul ∧ G' = G) ∨ (c ≤ 9700 ∧ s ≤ 140100 ∧ ul'.length + 1 = ul.length))) := by
  have h00 := h
  obtain ⟨tg, d0, da, ia, ro, rd, tx, pl, i0, i1, rws, hW, hR, e1, e2, e3, hu⟩ := h
  have hWW := hW
  obtain ⟨hx0, hr0, ht0, rx, txx, txr, rdx, rdr, dax, iax, ⟨fro, hro⟩, ⟨ftx, htx⟩, hds⟩ := hW.heads
  obtain ⟨po, to, q1, q2, q3, q4, q5, q6, hok⟩ := hW.now
  obtain ⟨⟨a1, a2, a3, a4, a5⟩, b1, ⟨c1, c2, c3⟩, ⟨fd, d1, d2, d3⟩, ⟨fi, y1, y2, y3, y4⟩, da1, ⟨⟨rl, f1⟩, f2, f3⟩, ⟨td, tn, g1, g2, g3, g4, g5⟩, h1, h2, h3⟩ := hW
  have hP := q3
  obtain ⟨lo, ld, ad, ch, mc, f, p1, p2, p3, p4, p5, p6, p7, p8, p9, p10, p11⟩ := q3
  have poz : po ≠ 0 := by omega
  have pox : po ≠ xo := hd_ne p1 c1 (by decide)
  have por : po ≠ ro := hd_ne p1 hro (by decide)
  have pot : po ≠ tx := hd_ne p1 htx (by decide)
  have pod : po ≠ d0 := hd_ne p1 q1 (by decide)
  have pol := (b1 po (by rw [p5]; exact poz)).2
  have xol := (b1 xo (by rw [c2]; exact hx0)).2
  rcases p11 with ⟨m1, m2⟩ | ⟨mo, m1, m2⟩
  · subst m1
    unfold hF_X0_machine
    refine w_xR c1 rfl rfl (w_some (w_xR q1 rfl rfl (w_some (w_pos (gC_at p1) ?_))))
    unfold hF_X2_machine
    refine w_cB (w_xR (r := none) p1 rfl rfl (w_pos rfl (w_tick ?_)))
    have kc0 : ∀ x b, b < nx → gset G nx x b = G b := fun x b hb => gset_ne _ _ (by omega)
    have ldl : ld < nx := by rcases p7 with w | w; exact (b1 ld (by rw [w]; exact poz)).2; omega
    refine w_call (mach_new (po := po) (lo := lo) (ld := ld) (ad := ad) (rs := S.1.1.1) hV (a3.keep (fun a ha => kc0 _ a (by omega))) (a4.keep (fun a ha => kc0 _ a (by omega))) ⟨⟨_, _, _, _, by rw [kc0 _ po pol]; exact p1⟩, p2.keep (kc0 _ _ (b1 lo (by rw [p6]; exact poz)).2) (kc0 _ _ ldl) (fun a ha => kc0 _ _ (b1 a (by rw [p8 a ha]; exact poz)).2)⟩ ⟨by omega, by have := (b1 lo (by rw [p6]; exact poz)).2; omega, by omega, fun a ha => by have := (b1 a (by rw [p8 a ha]; exact poz)).2; omega⟩ (fun y hy => ?_) a2 (show nx < nx + 1 by omega) (by omega) (gset_eq _ _ _)) ?_
    · rcases hy with w | w | w | w
      · omega
      · have := (b1 lo (by rw [p6]; exact poz)).2; omega
      · omega
      · have := (b1 y (by rw [p8 y w]; exact poz)).2; omega
    rintro - G1 n1 s1 ⟨u1, u2, u3, u4⟩
    have k1 : ∀ b, b < nx → G1 b = G b := fun b hb => by rw [u4 b (by omega) (by omega)]; exact kc0 _ b hb
    refine w_xF (fs' := [va_rf (some lo), va_rf (some ch), .int (nI S.1.1.2.2.1), .int (nI S.1.1.2.2.2), va_rf (some nx)]) (by rw [k1 po pol]; exact p1) rfl (Nat.le_of_ble_eq_true rfl) p10 rfl ?_
    unfold hB_X2_machine_19
    refine w_xR (gset_eq _ _ _) rfl rfl (w_ret (w_ret ?_))
    generalize hG2 : gset G1 po (.inr (2, [va_rf (some lo), va_rf (some ch), .int (nI S.1.1.2.2.1), .int (nI S.1.1.2.2.2), va_rf (some nx)])) = G2
    have k2 : ∀ b, b < nx → b ≠ po → G2 b = G b := fun b b1 b2 => by rw [← hG2, gset_ne _ _ b2]; exact k1 b b1
    have hP2 : G2 po = some (pcell lo ch S.1.1 (some nx)) := by rw [← hG2]; exact gset_eq _ _ _
    have hM2 : MAt V G2 nx S.1.1.1 (fun a => a = nx ∨ (nx + 1 ≤ a ∧ a < nx + 1 + n1)) := u1.keep (fun a ha => by rw [← hG2]; exact gset_ne _ _ (by omega)) (fun a ha => by rw [← hG2]; exact gset_ne _ _ (by omega))
    clear hG2
    have fr : ∀ a, tg a ≠ 0 → tg a ≠ po → G2 a = G a := fun a w1 w2 => k2 a (b1 a w1).2 (fun e => w2 (by rw [e]; exact p5))
    have fc : ∀ a, a < V.1 → G2 a = G a := fun a ha => k2 a (by omega) (by omega)
    have old : ∀ {nt : Nat → Nat} {a : Nat}, tg a ≠ 0 → tgN nx tg nt a = tg a := fun {nt a} w => tgN_old (b1 a w).2
    have hlen : (ul.erase po).length + 1 = ul.length := by
      rw [List.length_erase_of_mem m2]
      have := List.length_pos_of_mem m2
      omega
    have hW2 : Wc V G2 (nx + (1 + (n1 + 0))) xo (tgN nx tg (fun a => if a < nx + 1 + n1 then po else 0)) d0 da ia ro rd tx (gLast S.1.1 (0, 0, 0) S.1.2) S.1 pl i0 i1 S.2.2.2 (fun a => a ∈ ul.erase po) := by
      refine ⟨⟨a1, by omega, a3.keep fc, a4.keep fc, a5.keep fc⟩, fun a ha => ?_, ⟨?_, ?_, c3⟩, ⟨fd, ?_, ?_, d3⟩, ⟨fi, ?_, ?_, y3, y4⟩, da1, ⟨⟨rl, f1.keep ?_ ?_⟩, ?_, ?_⟩, ⟨td, tn, g1.keep ?_ ?_, ?_, ?_, g4, g5⟩, fun e he => ⟨?_, (h1 e he).2⟩, h2, h3⟩
      · by_cases ca : a < nx
        · rw [tgN_old ca] at ha
          have := b1 a ha
          omega
        · rw [tgN_new (by omega)] at ha
          by_cases c2' : a < nx + 1 + n1
          · omega
          · rw [if_neg c2'] at ha; exact absurd rfl ha
      · rw [fr xo (by rw [c2]; exact hx0) (by rw [c2]; exact Ne.symm pox)]; exact c1
      · rw [old (by rw [c2]; exact hx0)]; exact c2
      · rw [fr da (by rw [d2]; exact hx0) (by rw [d2]; exact Ne.symm pox)]; exact d1
      · rw [old (by rw [d2]; exact hx0)]; exact d2
      · rw [fr ia (by rw [y2]; exact hx0) (by rw [y2]; exact Ne.symm pox)]; exact y1
      · rw [old (by rw [y2]; exact hx0)]; exact y2
      · exact fr ro (by rw [f2]; exact hr0) (by rw [f2]; exact Ne.symm por)
      · rcases f3 with w | w
        · exact fr rd (by rw [w]; exact hr0) (by rw [w]; exact Ne.symm por)
        · exact fc rd w
      · rw [old (by rw [f2]; exact hr0)]; exact f2
      · rcases f3 with w | w
        · exact Or.inl (by rw [old (by rw [w]; exact hr0)]; exact w)
        · exact Or.inr w
      · exact fr tx (by rw [g2]; exact ht0) (by rw [g2]; exact Ne.symm pot)
      · exact fr td (by rw [g3]; exact ht0) (by rw [g3]; exact Ne.symm pot)
      · rw [old (by rw [g2]; exact ht0)]; exact g2
      · rw [old (by rw [g3]; exact ht0)]; exact g3
      · obtain ⟨pe, te, r1, r2, r3, r4, r5⟩ := (h1 e he).1
        have ez := (hds e he).1
        have ep : e.1 ≠ po := Ne.symm (hd_ne p1 r1 (by decide))
        refine ⟨pe, te, ?_, by rw [old (by rw [r2]; exact ez)]; exact r2, r3, (r4.keep (fun a ha => fr a (by rw [ha.1]; exact ez) (by rw [ha.1]; exact ep)) fc).mono (fun a ha => ⟨by rw [old (by rw [ha.1]; exact ez)]; exact ha.1, ha.2⟩), ?_⟩
        · rw [fr e.1 (by rw [r2]; exact ez) (by rw [r2]; exact ep)]; exact r1
        · by_cases cp : pe = po
          · subst cp
            obtain ⟨lo', ld', ad', ch', mc', f', t1, t2, t3, t4, t5, t6, t7, t8, t9, t10, t11⟩ := r5
            rw [p1] at t1
            obtain ⟨elo, emc⟩ := pcell_inj (Option.some.inj t1)
            subst elo
            have hrs := p2.uniq t2
            have kp : ∀ b, tg b = pe → b ≠ pe → G2 b = G b := fun b w1 w2 => k2 b (b1 b (by rw [w1]; exact poz)).2 w2
            have kt : ∀ b, tg b = pe → tgN nx tg (fun a => if a < nx + 1 + n1 then pe else 0) b = pe := fun b w1 => by rw [old (by rw [w1]; exact poz)]; exact w1
            refine ⟨lo, ld', ad', ch', some nx, f', ?_, t2.keep (kp lo t6 ?_) ?_ (fun a ha => kp a (t8 a ha) ?_), (kp ch' t9 ?_).trans t3, t4, kt _ t5, kt _ t6, ?_, fun a ha => kt a (t8 a ha), kt _ t9, t10, Or.inr ⟨nx, rfl, ?_⟩⟩
            · have := Option.some.inj t1
              simp only [Sum.inr.injEq, Prod.mk.injEq, List.cons.injEq, true_and, and_true] at this
              rw [hP2, pcell, pcell, this.1, this.2.1, this.2.2.1]
            · intro w
              obtain ⟨ml, nn, ff, z, -⟩ := t2.1
              rw [w, p1] at z; cases z
            · rcases t7 with w | w
              · refine kp ld' w (fun e => ?_)
                obtain ⟨ml, nn, ff, z, z2, -⟩ := t2.1
                rw [e, p1] at z2; cases z2
              · exact fc ld' w
            · intro w
              obtain ⟨i, hi, ei⟩ := List.getElem_of_mem ha
              have := (t2.2.2.2.2 i hi (by have := t2.2.1; omega)).1
              rw [ei, w, p1] at this; cases this
            · intro w
              rw [w, p1] at t3; cases t3
            · rcases t7 with w | w
              · exact Or.inl (kt _ w)
              · exact Or.inr w
            · rw [← hrs]
              refine hM2.mono (fun a ha => ⟨?_, by omega⟩)
              rw [tgN_new (by omega), if_pos (by omega)]
          · obtain ⟨lo', ld', ad', ch', mc', f', t1, -, -, -, -, -, -, -, -, t10, -⟩ := id r5
            refine r5.move a1 (fun a ha => ⟨by rw [old (by rw [ha]; omega)]; exact ha, fr a (by rw [ha]; omega) (by rw [ha]; exact cp)⟩) fc (fun w => ?_)
            exact (List.mem_erase_of_ne cp).mpr w
    refine ⟨nx, ul.erase po, rfl, ⟨_, d0, da, ia, ro, rd, tx, pl, i0, i1, rws, hW2, ?_, e1, e2, e3, hu.erase po⟩, ?_, fr xo (by rw [c2]; exact hx0) (by rw [c2]; exact Ne.symm pox), fun a ⟨r, hr⟩ ha => k2 a ha (fun e => by rw [e, p1] at hr; cases hr), Or.inr ⟨by omega, by omega, hlen⟩⟩
    · have hk := hR.keep (G' := G2) (fun a ha => fr a (by rw [ha]; exact hr0) (by rw [ha]; exact Ne.symm por)) fc f2 f3
      exact ⟨hk.1, fun a ha => by
        obtain ⟨z1, z2, z3⟩ := hk.2.1 a ha
        exact ⟨by rw [old (by rw [z1]; exact hr0)]; exact z1, z2, z3⟩, hk.2.2⟩
    · obtain ⟨x1, -⟩ := hW2.2.2.1
      have dl := (q6 d0 q4).1
      have chl := (b1 ch (by rw [p9]; exact poz)).2
      refine ⟨d0, da, pl.length, ia, ro, _, tx, po, to, lo, ch, f, _, x1, rfl, ?_, hP2, ?_, p4, hM2, fun a ha => by omega, by omega, by omega, by omega, by omega, by omega, hW2.1.2.2.1⟩
      · rw [fr d0 (by rw [q4]; omega) (by rw [q4]; exact Ne.symm pod)]; exact q1
      · rw [k2 ch chl (fun e => by rw [e, p1] at p3; cases p3)]; exact p3
  · subst m1
    have hMR : MR V G nx xo mo S.1.1 (gLast S.1.1 (0, 0, 0) S.1.2).1 := ⟨d0, da, pl.length, ia, ro, _, tx, po, to, lo, ch, f, _, c1, rfl, q1, p1, p3, p4, m2, fun a ha => (b1 a (by rw [ha.1]; exact poz)).2, xol, (q6 d0 q4).1, pol, (b1 ch (by rw [p9]; exact poz)).2, a2, a3⟩
    exact ⟨some mo, G, 0, 0, hMR.machine, mo, ul, rfl, h00, hMR, rfl, fun _ _ _ => rfl, Or.inl ⟨rfl, rfl, rfl, rfl⟩⟩
end X

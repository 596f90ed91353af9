/-! PURE 9C: RunWatch.tells: its steps -/
section X
variable {V : HEn} {G G' : Gh} {nx nx' xo d0 da ia ro rd tx so sd po on od bg wo : Nat} {tg tg' : Nat → Nat} {st : Nat × Nat × Nat} {k0 : Dk} {pl : List (Nat × Dk)} {i0 i1 : Option (Nat × Dk)} {txt : List Nat} {U U' : Nat → Prop} {l ow : List Nat} {nu : Int32} {p : Pn}
/-- the whole text, from a new Reader -/
theorem all_f2 (hV : 1200 ≤ V.2.2.2.2) (hB : RdB V G nx ro so sd po 0 bg wo nu 0 on l) (hsd : so < sd) (hP : RPl V G nx sd po p) (hok : PnOk p) (hOn : OnS false false ow) (hO : Str V G on od ow False) (hon : on < V.1) (hod : od < V.1) (hr : p.1 = []) : wH (hF_X4_all V G nx ro) (AlQ V G nx ro so sd po 7 (pAll l 6 false false p 0 (lexT l 0))) := by
  obtain ⟨h1, h2, g1, g2, g3, g4, g5, g6, g7, g8, g9⟩ := id hB
  obtain ⟨e1, e2, e3⟩ := lexT_le (l := l) (a := 0) (Nat.zero_le _)
  unfold hF_X4_all
  refine w_pos (gC_at h1) (xw (next_at hV (Nat.zero_le _) hB) ?_ ?_)
  · rintro r G3 c3 s3 ⟨q1, q2, q3, q4⟩
    rcases q4 with ⟨v1, -, v3⟩ | ⟨-, q, v2, -⟩
    case inr => cases v2
    have hF3 : RdF V G3 (nx + c3) ro so sd po 0 on l (lexT l 0) := ⟨v3, g1.keep (fun a ha => q3 a (by omega) (by omega) (by omega)), g2, g7, hsd, by omega, g9, e1, e2, e3, v1⟩
    have hS3 : RdS V G3 (nx + c3) ro so sd po 0 l (lexT l 0) false false p := ⟨on, od, ow, hF3, hP.keep (by omega) (fun b b1 b2 => q3 b b1 (by omega) (by omega)) (by omega), hok, hOn, hO.keep (q3 on (by omega) (by omega) (by omega)) (q3 od (by omega) (by omega) (by omega)), by omega, by omega, by omega⟩
    refine w_mono (all_l hV 5 V.2.2.2.2 G3 (nx + c3) (lexT l 0) 0 false false p hS3 (lexT_sort l 0) (by unfold msI; rw [hr]; decide) (by omega)) ?_
    rintro r G' c s ⟨k1, k2, k3, k4⟩
    refine ⟨by omega, by omega, fun b hb => by rw [k3 b hb]; exact q3 b (by omega) (by omega) (by omega), ?_⟩
    cases eR' : pAll l 6 false false p 0 (lexT l 0) with
    | inl b => rw [eR'] at k4; exact FtQ.of k4 (by omega) (by omega)
    | inr y =>
      obtain ⟨p2, it2⟩ := y
      rw [eR'] at k4
      obtain ⟨j1, j2, j3⟩ := k4
      exact ⟨j1, by rw [show nx + (c3 + c) = nx + c3 + c by omega]; exact j2, j3⟩
  · rintro q G3 c3 s3 ⟨q1, q2, q3, q4⟩
    rcases q4 with ⟨-, v2, -⟩ | ⟨v1, v2⟩
    · cases v2
    · refine ⟨by omega, by omega, fun b hb => q3 b (by omega) (by omega) (by omega), ?_⟩
      rw [show pAll l 6 false false p 0 (lexT l 0) = .inl (lexT l 0).1 by unfold pAll; rw [if_pos v1]]
      obtain ⟨q', w1, w2, w3, w4⟩ := v2
      cases w1
      exact ⟨q, rfl, by omega, by omega, w4⟩
/-- new cells are tagged, new plans are owed -/
theorem Wc.tag (h : Wc V G nx xo tg d0 da ia ro rd tx st k0 pl i0 i1 txt U) (hn : nx ≤ nx') (hk : ∀ b, b < nx → G' b = G b) (ht : ∀ a, a < nx → tg' a = tg a) (ht2 : ∀ a, nx ≤ a → tg' a ≠ 0 → a < nx') (hU : ∀ a, U a → U' a) : Wc V G' nx' xo tg' d0 da ia ro rd tx st k0 pl i0 i1 txt U' := by
  have hb := h.1.2.1
  have hl := h.2.1
  obtain ⟨hD, hok⟩ := h.2.2.2.2.2.2.2.2.1 (d0, k0) (by simp [dsk])
  have h2 := h.setd (tg' := tg') (G' := G') hn ht ht2 (fun a ha _ => hk a (hl a ha).2) (fun a ha => hk a (by omega)) (hD.move (T := fun _ => False) h.1.1 (fun a ha _ => ⟨ht a (hl a ha).2, hk a (hl a ha).2⟩) (fun w => w) (fun q fs w => w.elim) (fun a ha => hk a (by omega)) (fun q w => w)) hok
  obtain ⟨z1, z2, z3, z4, z5, z6, z7, z8, z9, z10, z11⟩ := h2
  exact ⟨z1, z2, z3, z4, z5, z6, z7, z8, fun e he => ⟨(z9 e he).1.move (T := fun _ => False) z1.1 (fun a _ _ => ⟨rfl, rfl⟩) (fun w => w) (fun q fs w => w.elim) (fun a _ => rfl) hU, (z9 e he).2⟩, z10, z11⟩
/-- another desk becomes now -/
theorem becomes_w {dn : Nat} {kn : Dk} {ul : List Nat} (hV : 1200 ≤ V.2.2.2.2) (h : Wc V G nx xo tg d0 da ia ro rd tx st k0 pl i0 i1 txt (fun a => a ∈ ul)) (hu : ul.Nodup) (hD : DkA V G tg (fun a => a ∈ ul) dn kn) (hok : DkOk kn) (hnd : dn ∉ (pl ++ i0.toList ++ i1.toList).map Prod.fst) : wH (hF_X0_becomes V G nx xo (some dn)) (fun _ G' c s => c ≤ 170 ∧ s ≤ 6700 ∧ Wd V G' (nx + c) xo (kn, pl.map Prod.snd, (i0.map Prod.snd, i1.map Prod.snd), txt) ul) := by
  obtain ⟨c1, c2, c3⟩ := h.2.2.1
  obtain ⟨fd, d1, d2, d3⟩ := h.2.2.2.1
  obtain ⟨fi, w1, w2, w3, w4⟩ := h.2.2.2.2.1
  have hdax := h.heads.2.2.2.2.2.2.2.2.1
  have hiax := h.heads.2.2.2.2.2.2.2.2.2.1
  have hl := h.2.2.2.2.2.2.2.2.2.2
  unfold hF_X0_becomes
  refine w_xF (fs' := [va_rf (some dn), va_rf (some da), .int (nI pl.length), va_rf (some ia), va_rf (some ro), .int (nI st.1), .int (nI st.2.1), .int (nI st.2.2), va_rf (some tx)]) c1 rfl (Nat.le_of_ble_eq_true rfl) c3 rfl (w_pos (gC_at (gset_eq _ _ _)) ?_)
  have hW2 := h.setx (G' := gset G xo (.inr (0, [va_rf (some dn), va_rf (some da), .int (nI pl.length), va_rf (some ia), va_rf (some ro), .int (nI st.1), .int (nI st.2.1), .int (nI st.2.2), va_rf (some tx)]))) (d0' := dn) (k0' := kn) (st' := st) (i0' := i0) (i1' := i1) (pl' := pl) (fd := fd) (fi := fi) (fun b b1 b2 b3 => gset_ne _ _ b1) (gset_eq _ _ _) (by rw [gset_ne _ _ hdax]; exact d1) d3 (by rw [gset_ne _ _ hiax]; exact w1) w3 w4 (fun e he => by
    rcases List.mem_cons.mp (show e ∈ (dn, kn) :: (pl ++ i0.toList ++ i1.toList) from he) with w | w
    · rw [w]; exact ⟨hD, hok⟩
    · exact h.2.2.2.2.2.2.2.2.1 e (List.mem_cons.mpr (Or.inr w))) (List.nodup_cons.mpr ⟨hnd, (List.nodup_cons.mp (show (d0 :: (pl ++ i0.toList ++ i1.toList).map Prod.fst).Nodup from h.2.2.2.2.2.2.2.2.2.1)).2⟩) hl
  refine w_call (goes_d hV hW2 hu) ?_
  rintro - G3 n3 s3 ⟨z1, z2, z3, -⟩
  exact w_ret ⟨by omega, by omega, z3⟩
/-- the text is emptied -/
theorem wd_text0 {S : Sp} {ul : List Nat} (h : Wd V G nx xo S ul) : ∃ tx, xR G xo fl_RunWatch_text = some (some tx) ∧ gC G tx 24 = true ∧ wH (hF_J6_setLength V G nx tx 0) (fun _ G' c s => c = 0 ∧ s = 0 ∧ Wd V G' nx xo (S.1, S.2.1, S.2.2.1, []) ul) := by
  obtain ⟨tg, d0, da, ia, ro, rd, tx, pl, i0, i1, rws, hW, hR, e1, e2, e3, hu⟩ := h
  obtain ⟨hx0, hr0, ht0, rx, txx, txr, rdx, rdr, dax, iax, ⟨fro, hro⟩, ⟨ftx, htx⟩, hds⟩ := hW.heads
  obtain ⟨⟨a1, a2, a3, a4, a5⟩, b1, ⟨c1, c2, c3⟩, ⟨fd, d1, d2, d3⟩, ⟨fi, y1, y2, y3, y4⟩, da1, ⟨⟨rl, f1⟩, f2, f3⟩, ⟨td, tn, g1, g2, g3, g4, g5⟩, h1, h2, h3⟩ := hW
  have tl := (b1 tx (by rw [g2]; exact ht0)).2
  have tdl := (b1 td (by rw [g3]; exact ht0)).2
  refine ⟨tx, xR_at c1 rfl rfl, gC_at htx, w_mono (sb_zero g1 (by omega) (by omega) (by omega)) ?_⟩
  rintro - G1 c s ⟨rfl, rfl, u1, u2⟩
  have fr : ∀ a, tg a ≠ tx → G1 a = G a := fun a w => u2 a (fun e => w (by rw [e]; exact g2))
  have fc : ∀ a, a < V.1 → G1 a = G a := fun a ha => fr a (fun w => by have := (b1 a (by rw [w]; exact ht0)).1; omega)
  have ard : G1 rd = G rd := by
    rcases f3 with w | w
    · exact fr rd (by rw [w]; exact Ne.symm txr)
    · exact fc rd w
  refine ⟨rfl, rfl, ⟨tg, d0, da, ia, ro, rd, tx, pl, i0, i1, rws, ⟨⟨a1, a2, a3.keep fc, a4.keep fc, a5.keep fc⟩, b1, ⟨(fr xo (by rw [c2]; exact Ne.symm txx)).trans c1, c2, c3⟩, ⟨fd, (fr da (by rw [d2]; exact Ne.symm txx)).trans d1, d2, d3⟩, ⟨fi, (fr ia (by rw [y2]; exact Ne.symm txx)).trans y1, y2, y3, y4⟩, da1, ⟨⟨rl, f1.keep (fr ro (by rw [f2]; exact Ne.symm txr)) ard⟩, f2, f3⟩, ⟨td, tn, u1, g2, g3, g4, Nat.zero_le _⟩, fun e he => ⟨?_, (h1 e he).2⟩, h2, h3⟩, ⟨hR.1.keep (fr ro (by rw [f2]; exact Ne.symm txr)) ard, hR.2.1, hR.2.2.1, fun j j1 j2 => ?_⟩, e1, e2, e3, hu⟩⟩
  · refine (h1 e he).1.move (T := fun t => t = tx) a1 (fun a w1 w2 => ⟨rfl, fr a w2⟩) (hds e he).2.2.2 ?_ fc (fun q w => w)
    rintro q fs w hq
    rw [w, htx] at hq; cases hq
  · rw [fr _ (by rw [(hR.2.1 _ (List.getElem_mem j1)).1]; exact Ne.symm txr)]
    exact hR.2.2.2 j j1 j2
end X

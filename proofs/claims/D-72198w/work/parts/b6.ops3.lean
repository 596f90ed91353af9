/-! PURE 73: contracts: comes, goes, becomes -/
section X
variable {V : HEn} {G G' : Gh} {nx nx' xo d0 da ia ro rd tx : Nat} {tg : Nat → Nat} {st : Nat × Nat × Nat} {k0 : Dk} {pl : List (Nat × Dk)} {i0 i1 : Option (Nat × Dk)} {txt : List Nat} {U : Nat → Prop} {rws : List Nat} {rl : List Rw}
theorem RwA.keep (h : RwA V G tg ro rd rws rl) (hk : ∀ a, tg a = ro → G' a = G a) (hc : ∀ a, a < V.1 → G' a = G a) (t2 : tg ro = ro) (t3 : tg rd = ro ∨ rd < V.1) : RwA V G' tg ro rd rws rl := by
  obtain ⟨h1, h2, h3, h4⟩ := h
  refine ⟨h1.keep (hk ro t2) ?_, h2, h3, fun j j1 j2 => ?_⟩
  · rcases t3 with w | w
    · exact hk rd w
    · exact hc rd w
  · rw [hk _ (h2 _ (List.getElem_mem j1)).1]; exact h4 j j1 j2
/-- nothing that is there changes -/
theorem Wc.low (h : Wc V G nx xo tg d0 da ia ro rd tx st k0 pl i0 i1 txt U) (hn : nx ≤ nx') (hk : ∀ b, b < nx → G' b = G b) : Wc V G' nx' xo tg d0 da ia ro rd tx st k0 pl i0 i1 txt U := by
  have hb := h.1.2.1
  have hl := h.2.1
  obtain ⟨hD, hok⟩ := h.2.2.2.2.2.2.2.2.1 (d0, k0) (by simp [dsk])
  refine h.setd (tg' := tg) hn (fun _ _ => rfl) (fun a ha hz => ?_) (fun a ha _ => hk a (hl a ha).2) (fun a ha => hk a (by omega)) (hD.move (T := fun _ => False) h.1.1 (fun a ha _ => ⟨rfl, hk a (hl a ha).2⟩) (fun w => w) (fun q fs w => w.elim) (fun a ha => hk a (by omega)) (fun q w => w)) hok
  have := hl a hz
  omega
theorem Wd.low {S : Sp} {ul : List Nat} (h : Wd V G nx xo S ul) (hn : nx ≤ nx') (hk : ∀ b, b < nx → G' b = G b) : Wd V G' nx' xo S ul := by
  obtain ⟨tg, d0, da, ia, ro, rd, tx, pl, i0, i1, rws, hW, hR, e1, e2, e3, hu⟩ := h
  have hb := hW.1.2.1
  have hl := hW.2.1
  have hr0 := hW.heads.2.1
  refine ⟨tg, d0, da, ia, ro, rd, tx, pl, i0, i1, rws, hW.low hn hk, hR.keep (fun a ha => hk a (hl a (by rw [ha]; exact hr0)).2) (fun a ha => hk a (by omega)) hW.2.2.2.2.2.2.1.2.1 hW.2.2.2.2.2.2.1.2.2, e1, e2, e3, hu⟩
theorem Wc.now (h : Wc V G nx xo tg d0 da ia ro rd tx st k0 pl i0 i1 txt U) : ∃ po to, G d0 = some (.inr (1, [va_rf (some po), va_rf (some to)])) ∧ TM V G to (fun a => tg a = d0 ∧ a ≠ d0) k0.2 ∧ PlA V G tg U po k0.1 ∧ tg d0 = d0 ∧ V.1 ≤ d0 ∧ (∀ a, tg a = d0 → a < nx ∧ V.1 ≤ a) ∧ DkOk k0 := by
  obtain ⟨⟨po, to, q1, q2, q3, q4, q5⟩, hok⟩ := h.2.2.2.2.2.2.2.2.1 (d0, k0) (by simp [dsk])
  refine ⟨po, to, q1, q4, q5, q2, q3, fun a ha => ?_, hok⟩
  simp only at q3
  have := h.1.1
  have := h.2.1 a (by omega)
  omega
/-- the rows of now change in their map -/
theorem Wc.setT {po to : Nat} {l : List (Nat × Nat)} (h : Wc V G nx xo tg d0 da ia ro rd tx st k0 pl i0 i1 txt U) (hD : G d0 = some (.inr (1, [va_rf (some po), va_rf (some to)]))) (hP : PlA V G tg U po k0.1) (hT : TM V G' to (fun a => (tg a = d0 ∧ a ≠ d0) ∨ (a = nx ∧ nx < nx')) l) (hn : nx ≤ nx') (hk : ∀ b, ¬ (tg b = d0 ∧ b ≠ d0) → b ≠ nx → G' b = G b) (hl : l.length ≤ 40) (hv : ∀ y ∈ l, y.1 ≤ 99 ∧ y.2 ≤ 4) : ∃ tg', (∀ a, a < nx → tg' a = tg a) ∧ Wc V G' nx' xo tg' d0 da ia ro rd tx st (k0.1, l) pl i0 i1 txt U := by
  obtain ⟨hz0, -⟩ := h.heads.2.2.2.2.2.2.2.2.2.2.2.2 (d0, k0) (by simp [dsk])
  obtain ⟨po', to', q1, q2, q3, q4, q5, q6, hok⟩ := h.now
  have hlv := h.2.1
  have hb := h.1.2.1
  have h00 := h.1.1
  have d0l := q6 d0 q4
  have kn : ∀ a, tg a ≠ 0 → tg a ≠ d0 → G' a = G a := fun a w1 w2 => hk a (fun z => w2 z.1) (by have := hlv a w1; omega)
  have kc : ∀ a, a < V.1 → G' a = G a := fun a ha => hk a (fun z => by have := q6 a z.1; omega) (by omega)
  obtain ⟨lo, ld, ad, ch, mcx, f, p1, -, -, -, -, -, -, -, -, p10, -⟩ := id hP
  have poz : po ≠ 0 := by omega
  have pod : po ≠ d0 := hd_ne p1 hD (by decide)
  refine ⟨tgN nx tg (fun a => if a = nx ∧ nx < nx' then d0 else 0), fun a ha => tgN_old ha, ?_⟩
  refine h.setd hn (fun a ha => tgN_old ha) (fun a ha hz => ?_) kn kc ⟨po, to, ?_, by rw [tgN_old d0l.1]; exact q4, q5, hT.mono (fun a ha => ?_), hP.move h00 (fun a ha => ?_) kc (fun w => w)⟩ ⟨hok.1, hT.fo.2.2.1, hl, hv⟩
  · rw [tgN_new ha] at hz
    by_cases c : a = nx ∧ nx < nx'
    · omega
    · rw [if_neg c] at hz; exact absurd rfl hz
  · rw [hk d0 (fun z => z.2 rfl) (by omega)]; exact hD
  · rcases ha with w | w
    · rw [tgN_old (q6 a w.1).1]; exact w
    · rw [w.1, tgN_new (Nat.le_refl _), if_pos ⟨rfl, w.2⟩]
      exact ⟨rfl, by omega⟩
  · have := hlv a (by rw [ha]; exact poz)
    exact ⟨by rw [tgN_old this.2]; exact ha, kn a (by rw [ha]; exact poz) (by rw [ha]; exact pod)⟩
end X
theorem mem_insertIdx' {l : List (Nat × Nat)} {i : Nat} {x y : Nat × Nat} (h : y ∈ l.insertIdx i x) : y = x ∨ y ∈ l := by
  by_cases c : i ≤ l.length
  · exact (List.mem_insertIdx c).mp h
  · rw [List.insertIdx_of_length_lt (by omega)] at h
    exact Or.inr h
section X
variable {V : HEn} {xo : Nat}
theorem ct_comes {a b : Int32} (hV : 1200 ≤ V.2.2.2.2) : Ct V xo (fun G nx => hF_X0_comes V G nx xo a b) (fun S => spComes S a b) := by
  rintro G nx S ul h0
  have h00 := h0
  obtain ⟨tg, d0, da, ia, ro, rd, tx, pl, i0, i1, rws, hW, hR, e1, e2, e3, hu⟩ := h0
  obtain ⟨c1, c2, c3⟩ := hW.2.2.1
  obtain ⟨po, to, q1, q2, q3, q4, q5, q6, hok⟩ := hW.now
  have hC := hW.1.2.2.1
  show wH (hF_X0_comes V G nx xo a b) _
  unfold hF_X0_comes hB_X0_comes_17 spComes
  refine w_call0 (isIn_at (n := 100) (by decide)) ?_
  cases ea : iR a 100 with
  | none => exact w_pos rfl (w_ret ⟨rfl, Ct.same h00 rfl rfl⟩)
  | some t =>
    obtain ⟨rfl, ht⟩ := iR_some (by decide) ea
    refine w_neg (isS1 t) (w_call0 isSign_at ?_)
    cases eb : iR b 5 with
    | none => exact w_pos rfl (w_ret ⟨rfl, Ct.same h00 rfl rfl⟩)
    | some s =>
      obtain ⟨rfl, hs⟩ := iR_some (by decide) eb
      refine w_neg (isS1 s) (w_xR c1 rfl rfl (w_some (w_xR q1 rfl rfl ?_)))
      obtain ⟨rv, f1, f2, rfl, f3, f4⟩ := valueOf_at (nx := nx + 0 + 0) hC (show t < 128 by omega)
      refine w_call0 f1 (w_some (w_pos q2.gC ?_))
      obtain ⟨r, g1, g2⟩ := q2.has (nx := nx + 0 + 0 + 0) (by omega) ⟨f2, rfl, f3, f4⟩ (show t < 128 by omega)
      refine w_call0 g1 ?_
      simp only
      rcases g2 with ⟨rfl, g2⟩ | ⟨rfl, g2⟩
      · rw [if_pos (hsT_iff.mpr g2)]
        exact w_neg (by decide) (w_ret ⟨rfl, Ct.same h00 rfl rfl⟩)
      · rw [if_neg (fun w => g2 (hsT_iff.mp w))]
        refine w_pos rfl (w_xR c1 rfl rfl (w_some (w_xR q1 rfl rfl (w_some (w_pos q2.gC (w_call0 q2.size ?_))))))
        have hl40 := hok.2.2.1
        by_cases c : S.1.2.length = 40
        · rw [if_pos c]
          exact w_pos (by rw [c]; rfl) (w_ret ⟨rfl, Ct.same h00 rfl rfl⟩)
        · rw [if_neg c]
          refine w_neg (fun z => c ((nI_eq (b := 40) (by omega) (by omega)).mp z)) (w_pos (gC_at c1) (w_call (notes_w hV hW) ?_))
          rintro - G1 n1 s1 ⟨u1, u2, tg1, pl1, u3, u4, u5, u6⟩
          obtain ⟨x1, x2, x3⟩ := u4.2.2.1
          obtain ⟨po1, to1, v1, v2, v3, v4, v5, v6, -⟩ := u4.now
          have hC1 := u4.1.2.2.1
          refine w_xR x1 rfl rfl (w_some (w_xR v1 rfl rfl ?_))
          obtain ⟨rv, f1, f2, rfl, f3, f4⟩ := valueOf_at (nx := nx + 0 + 0 + 0 + 0 + 0 + n1) hC1 (show t < 128 by omega)
          refine w_call0 f1 ?_
          unfold hB_X0_comes_72
          obtain ⟨rs_, g1', g2', rfl, g3, g4⟩ := valueOf_at (nx := nx + 0 + 0 + 0 + 0 + 0 + n1 + 0) hC1 (show s < 128 by omega)
          refine w_call0 g1' (w_some (w_pos v2.gC ?_))
          refine w_call (TM.put (by omega) v2 (fun a ha => (v6 a ha.1).1) (by omega) ⟨f2, rfl, f3, f4⟩ ⟨g2', rfl, g3, g4⟩ (by omega) (by omega) g2) ?_
          rintro - G2 n2 s2 ⟨rfl, rfl, w1, w2⟩
          obtain ⟨tg2, y1, y2⟩ := u4.setT (nx' := nx + n1 + 1) v1 v3 (w1.mono (fun a ha => by rcases ha with z | z; exact Or.inl z; exact Or.inr ⟨z, by omega⟩)) (by omega) w2 (by rw [List.length_insertIdx]; split <;> omega) (fun y hy => by
            rcases mem_insertIdx' hy with z | z
            · rw [z]; exact ⟨by simp only; omega, by simp only; omega⟩
            · exact hW.row z)
          have x1' := y2.2.2.1.1
          refine w_pos (gC_at x1') (w_call (goes_d hV y2 hu) ?_)
          rintro - G3 n3 s3 ⟨z1, z2, z3, -⟩
          have hz3 := z3
          obtain ⟨tg3, d3, da3, ia3, ro3, rd3, tx3, pl3, i03, i13, rws3, hW3, hR3, -⟩ := z3
          obtain ⟨c13, -⟩ := hW3.2.2.1
          obtain ⟨po3, to3, q13, q23, q33, q43, q53, q63, -⟩ := hW3.now
          refine w_xR c13 rfl rfl (w_some (w_xR q13 rfl rfl ?_))
          obtain ⟨rv, f1, f2', rfl, f3', f4'⟩ := valueOf_at (nx := nx + 0 + 0 + 0 + 0 + 0 + n1 + 0 + 0 + 1 + n3) hW3.1.2.2.1 (show t < 128 by omega)
          refine w_call0 f1 (w_some (w_pos q23.gC ?_))
          generalize hN : nx + 0 + 0 + 0 + 0 + 0 + n1 + 0 + 0 + 1 + n3 + 0 = N3
          have hN' : nx + n1 + 1 + n3 = N3 := hN
          have hN2 : nx + 0 + 0 + 0 + 0 + 0 + n1 + 0 + 0 + 1 + n3 = N3 := hN
          rw [hN2] at hW3 q63 hz3
          refine w_call (TM.headMap q23 (fun a ha => (q63 a ha.1).1) ⟨f2', rfl, f3', f4'⟩ (by omega)) ?_
          rintro - G4 n4 s4 ⟨rfl, rfl, rfl, m1, m2⟩
          have lb := lbP_ok (x := t) q2.fo.2.2.1
          have hp : (S.1.2.insertIdx (lbP S.1.2 t) (t, s))[lbP S.1.2 t]? = some (t, s) := by
            rw [List.getElem?_insertIdx_self]
            rw [if_pos lb.1]
          refine w_some (w_pos (gC_at m1) (w_call (TM.headSize (F := fun a => tg3 a = d3 ∧ a ≠ d3) (l := S.1.2.insertIdx (lbP S.1.2 t) (t, s)) (v0 := s) (by omega) (q23.keep (fun a ha => m2 a (by have := (q63 a ha.1).1; omega)) (fun a ha => m2 a (by have := hW3.1.2.1; omega))) (fun a ha => (q63 a ha.1).1) (by omega) ⟨f2', rfl, f3', by rw [m2 f2' (by have := hW3.1.2.1; omega)]; exact f4'⟩ (by omega) hp m1 (by have := hW3.1.2.1; omega)) ?_))
          rintro r G5 n5 s5 ⟨rfl, rfl, rfl, m3⟩
          refine w_ret ⟨rfl, ul, ?_, by unfold Cost; omega⟩
          have := hz3.low (G' := G5) (nx' := N3 + 1 + 2) (by omega) (fun b hb => by rw [m3 b (by omega) (by omega)]; exact m2 b (by omega))
          rw [u5, e1, e2, e3] at this
          rw [show nx + (n1 + (1 + (n3 + (1 + (2 + 0))))) = N3 + 1 + 2 by omega]
          exact this
end X

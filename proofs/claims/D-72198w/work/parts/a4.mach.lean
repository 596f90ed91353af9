/-! PURE 61: the machine, whole -/
section X
variable {V : HEn} {mo po bo bd pl so nu lo ld : Nat} {ad : List Nat} {rs : List Ru} {F : Nat → Prop}
theorem MPl.lowm {G G' : Gh} {nx : Nat} {Ls : List Nat} (h : MPl V G po bo bd pl lo ld ad rs F Ls) (hL : MLow nx po bo bd pl lo ld ad F) (hD : MDis V mo po bo bd lo ld ad F) (hm : ∀ y, (y = po ∨ y = lo ∨ y = ld ∨ y ∈ ad) → y ≠ mo) (hmb : V.1 ≤ mo) (hb : V.1 ≤ nx) (hk : ∀ b, b < nx → b ≠ mo → G' b = G b) : MPl V G' po bo bd pl lo ld ad rs F Ls := by
  obtain ⟨l1, l2, l3, l4, l5, l6, l7, l8⟩ := hL
  obtain ⟨d1, d2, d3⟩ := hD.2.2.2.2.2 mo (Or.inl rfl)
  exact h.keep (hk _ l1 (hm _ (by simp))) (hk _ l5 (hm _ (by simp))) (hk _ l6 (hm _ (by simp))) (fun a ha => hk _ (l7 a ha) (hm a (by simp [ha]))) (hk _ l2 (by omega)) (hk _ l3 (by omega)) (fun a ha => hk _ (l8 a ha) (fun e => d3 (e ▸ ha))) (fun a ha => hk _ (by omega) (by omega))
theorem rounds_at (hV : 1200 ≤ V.2.2.2.2) (hok : RsOk rs) (hm : ∀ y, (y = po ∨ y = lo ∨ y = ld ∨ y ∈ ad) → y ≠ mo) (hmb : V.1 ≤ mo) : ∀ (j r m : Nat) (G : Gh) (nx pa pv : Nat) (f : Nat → Int32) (Q : Unit → Gh → Nat → Nat → Prop), r + j = 4 → 1 ≤ j → j + 2 ≤ m → Cst V G → Dgt V G → G mo = some (mcell po bo pl (some pa) so nu) → MPl V G po bo bd pl lo ld ad rs F (plcs rs) → MLow nx po bo bd pl lo ld ad F → MDis V mo po bo bd lo ld ad F → mo < nx → V.1 ≤ nx → pa < nx → G pa = some (.inl (V.2.1 0, (plcs rs).length, .inl f)) → (∀ i, i < (plcs rs).length → f i = nI (prt rs (plcs rs) r i)) → pv < mm rs (plcs rs) r → mm rs (plcs rs) r ≤ 36 →
    (∀ (G' : Gh) (c1 s1 pa' : Nat) (f' : Nat → Int32), G' mo = some (mcell po bo pl (some pa') so nu) → nx ≤ pa' → pa' < nx + c1 → G' pa' = some (.inl (V.2.1 0, (plcs rs).length, .inl f')) → (∀ i, i < (plcs rs).length → f' i = nI (prt rs (plcs rs) (rdL rs (plcs rs) j r) i)) → c1 ≤ 1902 * j → s1 ≤ 23372 * j → (∀ b, b < nx → b ≠ mo → G' b = G b) → wH (if gC G' mo 7 = true then cB (hF_X8_numbers V G' (nx + c1) mo) (fun _ G4 _ => some ((), G4, 0, 0)) else none) (fun r G2 c s2 => Q r G2 (c1 + c) (s1 + s2))) →
    wH (hL_X8_init_160 V mo m G nx (nI pv) (nI (mm rs (plcs rs) r))) Q := by
  obtain ⟨p1, p2, p3, p4, p5⟩ := plcs_ok hok.2.2
  have e40 : cS 40 = 940 ∧ sS 40 = 15620 := by decide
  intro j
  induction j with
  | zero => intro r m G nx pa pv f Q _ h; omega
  | succ j ih =>
    intro r m G nx pa pv f Q hj _ hmf hC hD hM hP hL hDi hmo hb hpl hpa hf hpv h36 K
    obtain ⟨m, rfl⟩ := Nat.exists_eq_succ_of_ne_zero (show m ≠ 0 by omega)
    obtain ⟨m, rfl⟩ := Nat.exists_eq_succ_of_ne_zero (show m ≠ 0 by omega)
    have h36' := mm_36p hok r
    have hmn := mm_mono (rs := rs) p4 (plcs_pos hok.2.2) r
    rw [hL_X8_init_160]
    refine w_neg (fun z => by have := (nI_leq (by omega) (by omega)).mp z; omega) (w_pos (gC_at hM) ?_)
    refine w_call (parts_at (pt := prt rs (plcs rs) r) hV hC hD hM hP hL hmo hmb hpl hpa (fun i hi => ⟨hf i hi, prt_lt p4 r i⟩) hb p5 (by show mm rs (plcs rs) (r + 1) ≤ 40; omega)) ?_
    rintro y G1 c1 s1 ⟨rfl, t2, t3, ⟨na, g, t4, t5, t6, t7, t8⟩, t9⟩
    show wH (hL_X8_init_160 V mo (m + 1) G1 (nx + c1) (nI (mm rs (plcs rs) r)) (nI (mm rs (plcs rs) (r + 1)))) _
    have hg : ∀ i, i < (plcs rs).length → g i = nI (prt rs (plcs rs) (r + 1) i) := fun i hi => by
      obtain ⟨jj, j1, j2⟩ := t8 i hi
      rw [j1, nm_uniq j2]
      rfl
    by_cases c : mm rs (plcs rs) (r + 1) ≤ mm rs (plcs rs) r
    · have er : rdL rs (plcs rs) (j + 1) r = r + 1 := by rw [rdL, if_pos c]
      rw [hL_X8_init_160]
      refine w_pos ((nI_leq (by omega) (by omega)).mpr c) ?_
      exact K G1 c1 s1 na g t6 t4 t5 t7 (by rw [er]; exact hg) (by omega) (by omega) t9
    · have er : rdL rs (plcs rs) (j + 1) r = rdL rs (plcs rs) j (r + 1) := by rw [rdL, if_neg c]
      have hj1 : 1 ≤ j := by
        by_cases cj : j = 0
        · have : r = 3 := by omega
          subst this
          exact absurd (mm_4p hok) c
        · omega
      have k9 : ∀ a, a < V.1 → G1 a = G a := fun a ha => t9 a (by omega) (by omega)
      refine ih (r + 1) (m + 1) G1 (nx + c1) na (mm rs (plcs rs) r) g _ (by omega) hj1 (by omega) (hC.keep k9) (hD.keep k9) t6 (hP.lowm hL hDi hm hmb hb t9) (hL.mono (by omega)) hDi (by omega) (by omega) t5 t7 hg (by omega) h36' ?_
      intro G' c2 s2 pa' f' u1 u2 u3 u4 u5 u6 u7 u8
      have := K G' (c1 + c2) (s1 + s2) pa' f' u1 (by omega) (by omega) u4 (by rw [er]; exact u5) (by omega) (by omega) (fun b b1 b2 => by rw [u8 b (by omega) b2]; exact t9 b b1 b2)
      rw [← Nat.add_assoc] at this
      refine w_mono this (fun r' G2' c' s' hq => ?_)
      rw [← Nat.add_assoc, ← Nat.add_assoc]
      exact hq
/-- a machine in the heap: its cells lie in F -/
def MAt (V : HEn) (G : Gh) (mo : Nat) (rs : List Ru) (F : Nat → Prop) : Prop := ∃ (po bo pl pa so sd nu : Nat) (Fp Fn : Nat → Prop) (rows : List Nat) (f : Nat → Int32), G mo = some (mcell po bo pl (some pa) so nu) ∧ IM V G pl 19 Fp (ixL (plcs rs)) (plcs rs).length ∧ G pa = some (.inl (V.2.1 0, (plcs rs).length, .inl f)) ∧ (∀ i, i < (plcs rs).length → f i = nI (fpt rs i)) ∧ IM V G nu 22 Fn (ixL (sts rs)) (sts rs).length ∧ AL V G so sd (rows.map some) ∧ rows.length = (sts rs).length ∧ (∀ j (_ : j < rows.length), ∃ g, G rows[j] = some (.inl (V.2.1 0, 5, .inl g)) ∧ ∀ s, s < 5 → g s = tell (stT rs j s)) ∧ F mo ∧ F pa ∧ F so ∧ (F sd ∨ sd < V.1) ∧ (∀ y ∈ rows, F y) ∧ (∀ a, Fp a → F a) ∧ (∀ a, Fn a → F a) ∧ RsOk rs
theorem MAt.keep {G G' : Gh} (h : MAt V G mo rs F) (hk : ∀ a, F a → G' a = G a) (hc : ∀ a, a < V.1 → G' a = G a) : MAt V G' mo rs F := by
  obtain ⟨po, bo, pl, pa, so, sd, nu, Fp, Fn, rows, f, h1, h2, h3, h4, h5, h6, h7, h8, h9, h10, h11, h12, h13, h14, h15, h16⟩ := h
  refine ⟨po, bo, pl, pa, so, sd, nu, Fp, Fn, rows, f, (hk _ h9).trans h1, h2.keep (fun a ha => hk a (h14 a ha)) hc, (hk _ h10).trans h3, h4, h5.keep (fun a ha => hk a (h15 a ha)) hc, h6.keep (hk _ h11) ?_, h7, fun j hj => ?_, h9, h10, h11, h12, h13, h14, h15, h16⟩
  · rcases h12 with w | w
    · exact hk _ w
    · exact hc _ w
  · obtain ⟨g, g1, g2⟩ := h8 j hj
    exact ⟨g, (hk _ (h13 _ (List.getElem_mem hj))).trans g1, g2⟩
theorem MAt.mono {G : Gh} {F' : Nat → Prop} (h : MAt V G mo rs F) (hk : ∀ a, F a → F' a) : MAt V G mo rs F' := by
  obtain ⟨po, bo, pl, pa, so, sd, nu, Fp, Fn, rows, f, h1, h2, h3, h4, h5, h6, h7, h8, h9, h10, h11, h12, h13, h14, h15, h16⟩ := h
  exact ⟨po, bo, pl, pa, so, sd, nu, Fp, Fn, rows, f, h1, h2, h3, h4, h5, h6, h7, h8, hk _ h9, hk _ h10, hk _ h11, by rcases h12 with w | w; exact Or.inl (hk _ w); exact Or.inr w, fun y hy => hk _ (h13 y hy), fun a ha => hk _ (h14 a ha), fun a ha => hk _ (h15 a ha), h16⟩
theorem MAt.gC {G : Gh} (h : MAt V G mo rs F) : gC G mo 7 = true := by
  obtain ⟨po, bo, pl, pa, so, sd, nu, Fp, Fn, rows, f, h1, -⟩ := h
  exact gC_at h1
theorem MAt.many {G : Gh} {nx : Nat} (h : MAt V G mo rs F) : hF_X8_many V G nx mo = some (nI (sts rs).length, G, 0, 0) := by
  obtain ⟨po, bo, pl, pa, so, sd, nu, Fp, Fn, rows, f, h1, h2, h3, h4, h5, h6, h7, -⟩ := h
  have hw : wH (hF_X8_many V G nx mo) (fun q G' c s => q = nI (sts rs).length ∧ G' = G ∧ c = 0 ∧ s = 0) := by
    unfold hF_X8_many
    refine w_xR h1 rfl rfl (w_some (w_pos (by obtain ⟨ml, nn, ff, z, -⟩ := h6; exact gC_at z) (w_call0 (al_size h6) (w_ret ⟨?_, rfl, rfl, rfl⟩))))
    rw [List.length_map, h7]
  obtain ⟨q, G', c, s, e, rfl, rfl, rfl, rfl⟩ := hw
  exact e
theorem MAt.step {G : Gh} {nx j s : Nat} (h : MAt V G mo rs F) (hj : j < (sts rs).length) (hs : s < 5) : hF_X8_step V G nx mo (nI j) (nI s) = some (tell (stT rs j s), G, 0, 0) := by
  obtain ⟨po, bo, pl, pa, so, sd, nu, Fp, Fn, rows, f, h1, h2, h3, h4, h5, h6, h7, h8, -⟩ := h
  have hj2 : j < rows.length := by omega
  obtain ⟨g, g1, g2⟩ := h8 j hj2
  have hw : wH (hF_X8_step V G nx mo (nI j) (nI s)) (fun q G' c s' => q = tell (stT rs j s) ∧ G' = G ∧ c = 0 ∧ s' = 0) := by
    unfold hF_X8_step
    refine w_xR h1 rfl rfl (w_some (w_pos (by obtain ⟨ml, nn, ff, z, -⟩ := h6; exact gC_at z) (w_call0 (al_get h6 (by simp; omega)) ?_)))
    rw [List.getElem_map]
    exact w_some (w_aln g1 (w_rdI g1 (gd_nI hs (by omega)) (w_ret ⟨g2 s hs, rfl, rfl, rfl⟩)))
  obtain ⟨q, G', c, s', e, rfl, rfl, rfl, rfl⟩ := hw
  exact e
theorem MAt.stateOf {G : Gh} {nx p j : Nat} (hV : 1200 ≤ V.2.2.2.2) (hC : Cst V G) (h : MAt V G mo rs F) (hp : p ∈ plcs rs) (hj : stO rs p = some j) : hF_X8_stateOf V G nx mo (nI p) = some (nI j, G, 0, 0) := by
  obtain ⟨po, bo, pl, pa, so, sd, nu, Fp, Fn, rows, f, h1, h2, h3, h4, h5, h6, h7, h8, h9, h10, h11, h12, h13, h14, h15, h16⟩ := h
  obtain ⟨p1, p2, p3, p4, p5⟩ := plcs_ok h16.2.2
  obtain ⟨k, hk⟩ := ixL_mem hp
  have hk2 := (ixL_some hk).2
  have h36 := fpt_36 h16 hk2
  have hjx : ixL (sts rs) (fpt rs k) = some j := by
    unfold stO at hj
    rw [hk] at hj
    exact hj
  have hpl := p2 p hp
  have hw : wH (hF_X8_stateOf V G nx mo (nI p)) (fun q G' c s' => q = nI j ∧ G' = G ∧ c = 0 ∧ s' = 0) := by
    unfold hF_X8_stateOf
    obtain ⟨rv, f1, f2, rfl, f3, f4⟩ := valueOf_at (nx := nx) hC (show p < 128 by omega)
    obtain ⟨rg, g1, g2, rfl, g3, g4⟩ := h2.get (nx := nx + 0) (by omega) ⟨f2, rfl, f3, f4⟩ hpl hk
    refine w_xR h1 rfl rfl (w_xR h1 rfl rfl (w_xR h1 rfl rfl (w_call0 f1 (w_some (w_pos h2.gC19 (w_call0 g1 (w_pos (gok_at g4 (by simp)) (w_some (w_pos (gC_at g4) (w_call0 (intValue_at g4) (w_some (w_rdI h3 (gd_nI hk2 (by omega)) ?_))))))))))))
    rw [h4 k hk2]
    obtain ⟨ry, y1, y2, rfl, y3, y4⟩ := valueOf_at (nx := nx + 0 + 0 + 0) hC (show fpt rs k < 128 by omega)
    obtain ⟨rz, z1, z2, rfl, z3, z4⟩ := h5.get22 (nx := nx + 0 + 0 + 0 + 0) (by omega) ⟨y2, rfl, y3, y4⟩ (by omega) hjx
    exact w_call0 y1 (w_some (w_pos (by obtain ⟨fs, z, -⟩ := h5.cell22; exact gC_at z) (w_call0 z1 (w_pos (gok_at z4 (by simp)) (w_some (w_pos (gC_at z4) (w_call0 (intValue_at z4) (w_ret ⟨rfl, rfl, rfl, rfl⟩))))))))
  obtain ⟨q, G', c, s', e, rfl, rfl, rfl, rfl⟩ := hw
  exact e
end X

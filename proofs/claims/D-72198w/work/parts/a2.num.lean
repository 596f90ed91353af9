/-! PURE 59: Machine.numbers: all signs of one state -/
theorem ixL_pre {l t : List Nat} {x : Nat} (h : x ∈ l) : ixL (l ++ t) x = ixL l x := by
  unfold ixL
  simp [List.idxOf_append, h]
/-- what does not change in numbers -/
def NCtx (V : HEn) (G : Gh) (nx0 mo po bo bd pl so nu lo ld pa : Nat) (ad : List Nat) (rs : List Ru) (Fp : Nat → Prop) (f : Nat → Int32) : Prop :=
  Cst V G ∧ G mo = some (mcell po bo pl (some pa) so nu) ∧ MPl V G po bo bd pl lo ld ad rs Fp (plcs rs) ∧ MLow nx0 po bo bd pl lo ld ad Fp ∧ mo < nx0 ∧ pa < nx0 ∧ G pa = some (.inl (V.2.1 0, (plcs rs).length, .inl f)) ∧ (∀ i, i < (plcs rs).length → f i = nI (fpt rs i)) ∧ RsOk rs ∧ V.1 ≤ nx0 ∧ (∀ y, (y = mo ∨ y = pa ∨ y = po ∨ y = bo ∨ y = bd ∨ y = lo ∨ y = ld ∨ y ∈ ad ∨ Fp y) → y ≠ nu ∧ y ≠ so) ∧ V.1 ≤ nu ∧ V.1 ≤ so
/-- the states that are come to: those that wait, their numbers -/
def NSt (V : HEn) (G : Gh) (rs : List Ru) (nx0 nx wo wd nu : Nat) (Fn : Nat → Prop) (W : List Nat) : Prop :=
  IL V G wo wd W ∧ IM V G nu 22 Fn (ixL W) W.length ∧ W.Nodup ∧ (∀ y ∈ W, ∃ k, k < (plcs rs).length ∧ fpt rs k = y) ∧ (∀ a, Fn a → a = nu ∨ (nx0 ≤ a ∧ a < nx)) ∧ nx0 ≤ wo ∧ wo < nx ∧ wd < nx ∧ (wd < V.1 ∨ nx0 ≤ wd) ∧ wo ≠ wd ∧ ¬ Fn wo ∧ ¬ Fn wd
def NRow (V : HEn) (G : Gh) (nx0 nx wo wd : Nat) (Fn : Nat → Prop) (ra : Nat) (g : Nat → Int32) : Prop := G ra = some (.inl (V.2.1 0, 5, .inl g)) ∧ nx0 ≤ ra ∧ ra < nx ∧ ra ≠ wo ∧ ra ≠ wd ∧ ¬ Fn ra
def RowV (rs : List Ru) (q : Nat) (W : List Nat) (g : Nat → Int32) (s : Nat) : Prop := ∀ i, i < s → g i = tell ((dlP rs q i).bind (ixL W)) ∧ ∀ x, dlP rs q i = some x → x ∈ W
theorem RowV.app {rs : List Ru} {q s : Nat} {W t : List Nat} {g : Nat → Int32} (h : RowV rs q W g s) : RowV rs q (W ++ t) g s := by
  intro i hi
  obtain ⟨h1, h2⟩ := h i hi
  refine ⟨?_, fun x hx => List.mem_append.mpr (Or.inl (h2 x hx))⟩
  rw [h1]
  cases e : dlP rs q i with
  | none => rfl
  | some x => exact congrArg tell (ixL_pre (h2 x e)).symm
section X
variable {V : HEn} {nx0 mo po bo bd pl so nu lo ld pa wo ra at_ q : Nat} {ad : List Nat} {rs : List Ru} {Fp : Nat → Prop} {f : Nat → Int32}
theorem NCtx.keep {G G' : Gh} (h : NCtx V G nx0 mo po bo bd pl so nu lo ld pa ad rs Fp f) (hk : ∀ b, b < nx0 → b ≠ nu → b ≠ so → G' b = G b) : NCtx V G' nx0 mo po bo bd pl so nu lo ld pa ad rs Fp f := by
  obtain ⟨h1, h2, h3, h4, h5, h6, h7, h8, h9, h10, h11, h12, h13⟩ := h
  have k1 : ∀ y, y < nx0 → (y = mo ∨ y = pa ∨ y = po ∨ y = bo ∨ y = bd ∨ y = lo ∨ y = ld ∨ y ∈ ad ∨ Fp y) → G' y = G y := fun y hy hh => hk y hy (h11 y hh).1 (h11 y hh).2
  have k2 : ∀ a, a < V.1 → G' a = G a := fun a ha => hk a (by omega) (by omega) (by omega)
  obtain ⟨l1, l2, l3, l4, l5, l6, l7, l8⟩ := id h4
  exact ⟨h1.keep k2, (k1 mo h5 (by simp)).trans h2, h3.keep (k1 _ l1 (by simp)) (k1 _ l5 (by simp)) (k1 _ l6 (by simp)) (fun a ha => k1 a (l7 a ha) (by simp [ha])) (k1 _ l2 (by simp)) (k1 _ l3 (by simp)) (fun a ha => k1 a (l8 a ha) (by simp [ha])) k2, h4, h5, h6, (k1 pa h6 (by simp)).trans h7, h8, h9, h10, h11, h12, h13⟩
theorem NSt.keep {G G' : Gh} {nx nx' wd : Nat} {Fn : Nat → Prop} {W : List Nat} (h : NSt V G rs nx0 nx wo wd nu Fn W) (hn : nx ≤ nx') (h1 : G' wo = G wo) (h2 : G' wd = G wd) (h3 : ∀ a, Fn a → G' a = G a) (hc : ∀ a, a < V.1 → G' a = G a) : NSt V G' rs nx0 nx' wo wd nu Fn W := by
  obtain ⟨q1, q2, q3, q4, q5, q6, q7, q8, q9, q10, q11, q12⟩ := h
  exact ⟨q1.keep h1 h2 hc, q2.keep h3 hc, q3, q4, fun a ha => by rcases q5 a ha with w | w; exact Or.inl w; exact Or.inr ⟨w.1, by omega⟩, q6, by omega, by omega, q9, q10, q11, q12⟩
theorem NSt.low {G G' : Gh} {nx nx' wd : Nat} {Fn : Nat → Prop} {W : List Nat} (h : NSt V G rs nx0 nx wo wd nu Fn W) (hn : nx ≤ nx') (hu : nu < nx) (hb : V.1 ≤ nx) (hk : ∀ b, b < nx → G' b = G b) : NSt V G' rs nx0 nx' wo wd nu Fn W := by
  obtain ⟨q1, q2, q3, q4, q5, q6, q7, q8, q9⟩ := id h
  exact h.keep hn (hk _ q7) (hk _ q8) (fun a ha => hk a (by rcases q5 a ha with w | w <;> omega)) (fun a ha => hk a (by omega))
theorem num_in {k47 : Gh → Nat → Option Nat → Int32 → HO Unit} (hV : 1200 ≤ V.2.2.2.2) (hnu : nu < nx0) : ∀ (j s m : Nat) (G : Gh) (nx wd : Nat) (Fn : Nat → Prop) (W : List Nat) (g : Nat → Int32) (Q : Unit → Gh → Nat → Nat → Prop), s + j = 5 → j + 1 ≤ m → nx0 ≤ nx → NCtx V G nx0 mo po bo bd pl so nu lo ld pa ad rs Fp f → NSt V G rs nx0 nx wo wd nu Fn W → NRow V G nx0 nx wo wd Fn ra g → RowV rs q W g s → W[at_]? = some q →
    (∀ (m' : Nat) (G' : Gh) (c1 s1 wd' : Nat) (Fn' : Nat → Prop) (g' : Nat → Int32), NSt V G' rs nx0 (nx + c1) wo wd' nu Fn' (nF (dlP rs) q W (List.range' s j)) → NRow V G' nx0 (nx + c1) wo wd' Fn' ra g' → RowV rs q (nF (dlP rs) q W (List.range' s j)) g' 5 → (wd' = wd ∨ nx ≤ wd') → (∀ a, Fn' a → Fn a ∨ nx ≤ a) → c1 + 4 * W.length ≤ 2 * j + 4 * (nF (dlP rs) q W (List.range' s j)).length → s1 + 300 * W.length ≤ 8 * j + 300 * (nF (dlP rs) q W (List.range' s j)).length → (∀ b, b < nx → b ≠ wo → (b ≠ wd ∨ b < V.1) → ¬ Fn b → b ≠ ra → G' b = G b) → wH (hL_X8_numbers_64 V mo k47 (m' + 1) G' (nx + c1) (some wo) (nI at_) (some ra) (nI 5)) (fun r G2 c s2 => Q r G2 (c1 + c) (s1 + s2))) →
    wH (hL_X8_numbers_64 V mo k47 m G nx (some wo) (nI at_) (some ra) (nI s)) Q := by
  intro j
  induction j with
  | zero =>
    intro s m G nx wd Fn W g Q hj hm hnx hN hS hR hv hat K
    obtain ⟨m, rfl⟩ := Nat.exists_eq_succ_of_ne_zero (show m ≠ 0 by omega)
    have : s = 5 := by omega
    subst this
    have := K m G 0 0 wd Fn g hS hR hv (Or.inl rfl) (fun a ha => Or.inl ha) (by show 0 + 4 * W.length ≤ 2 * 0 + 4 * W.length; omega) (by show 0 + 300 * W.length ≤ 8 * 0 + 300 * W.length; omega) (fun _ _ _ _ _ _ => rfl)
    simpa using this
  | succ j ih =>
    intro s m G nx wd Fn W g Q hj hm hnx hN hS hR hv hat K
    obtain ⟨m, rfl⟩ := Nat.exists_eq_succ_of_ne_zero (show m ≠ 0 by omega)
    obtain ⟨hC, hM, hP, hL, hmo, hpl, hpa, hf, hok, hb, hne, hnub, hsob⟩ := id hN
    obtain ⟨w1, w2, w3, w4, w5, w6, w7, w8, w9, w10, w11, w12⟩ := id hS
    obtain ⟨r1, r2, r3, r4, r5, r6⟩ := id hR
    obtain ⟨p1, p2, p3, p4, p5⟩ := plcs_ok hok.2.2
    have er : List.range' s (j + 1) = s :: List.range' (s + 1) j := List.range'_succ
    have es : nF (dlP rs) q W (List.range' s (j + 1)) = nF (dlP rs) q (nSt (dlP rs) q W s) (List.range' (s + 1) j) := by rw [er]; rfl
    -- the value is kept in the row
    have wr : ∀ (G6 : Gh) (nx6 cc ss wd6 : Nat) (Fn6 : Nat → Prop) (W6 : List Nat) (v : Int32), W6 = nSt (dlP rs) q W s → NCtx V G6 nx0 mo po bo bd pl so nu lo ld pa ad rs Fp f → NSt V G6 rs nx0 nx6 wo wd6 nu Fn6 W6 → NRow V G6 nx0 nx6 wo wd6 Fn6 ra g → (∀ x, dlP rs q s = some x → x ∈ W6) → v = tell ((dlP rs q s).bind (ixL W6)) → nx6 = nx + cc → (wd6 = wd ∨ nx ≤ wd6) → (∀ a, Fn6 a → Fn a ∨ nx ≤ a) → cc + 4 * W.length ≤ 2 + 4 * W6.length → ss + 300 * W.length ≤ 8 + 300 * W6.length → (∀ b, b < nx → b ≠ wo → (b ≠ wd ∨ b < V.1) → ¬ Fn b → b ≠ ra → G6 b = G b) →
        wH (hB_X8_numbers_205 V mo k47 (hL_X8_numbers_64 V mo k47 m) G6 nx6 (some ra) (nI s) v (some wo) (nI at_) (some ra) (nI s)) (fun r G' c s' => Q r G' (cc + c) (ss + s')) := by
      intro G6 nx6 cc ss wd6 Fn6 W6 v hW hN6 hS6 hR6 hx hv6 hnx6 hwd hFn hc hs hfr
      obtain ⟨t1, t2, t3, t4, t5, t6⟩ := id hR6
      obtain ⟨u1, u2, u3, u4, u5, u6, u7, u8, u9, u10, u11, u12⟩ := id hS6
      unfold hB_X8_numbers_205
      refine w_some (w_wrI t1 (by omega) (gd_nI (show s < 5 by omega) (by omega)) ?_)
      rw [nI_1]
      have zk : ∀ b, b ≠ ra → gset G6 ra (.inl (V.2.1 0, 5, .inl (upd g s v))) b = G6 b := fun b hb' => gset_ne _ _ hb'
      obtain ⟨tt, htt⟩ := nSt_pre (dlP rs) q W s
      rw [← hW] at htt
      refine ih (s + 1) m _ nx6 wd6 Fn6 W6 (upd g s v) _ (by omega) (by omega) (by omega) (hN6.keep (fun b b1 _ _ => zk b (by omega))) (hS6.keep (Nat.le_refl _) (zk _ (Ne.symm t4)) (zk _ (Ne.symm t5)) (fun a ha => zk a (fun e => t6 (e ▸ ha))) (fun a ha => zk a (by omega))) ⟨gset_eq _ _ _, t2, t3, t4, t5, t6⟩ ?_ ?_ ?_
      · intro i hi
        unfold upd
        by_cases ci : i = s
        · subst ci; rw [if_pos rfl]; exact ⟨hv6, hx⟩
        · rw [if_neg ci]
          rw [htt]
          exact hv.app i (by omega)
      · rw [htt, List.getElem?_append_left (List.getElem?_eq_some_iff.mp hat).1]; exact hat
      · intro m' G' c4 s4 wd' Fn' g' v1 v2 v3 v4 v5 v6 v7 v8
        rw [hW] at v1 v3 v6 v7
        have := K m' G' (cc + c4) (ss + s4) wd' Fn' g' (by rw [es, show nx + (cc + c4) = nx6 + c4 by omega]; exact v1) (by rw [show nx + (cc + c4) = nx6 + c4 by omega]; exact v2) (by rw [es]; exact v3) (by omega) (fun a ha => ?_) (by rw [es]; rw [hW] at hc; omega) (by rw [es]; rw [hW] at hs; omega) (fun b b1 b2 b3 b4 b5 => ?_)
        · rw [show nx + (cc + c4) = nx6 + c4 by omega] at this
          refine w_mono this (fun r' G2' c' s' hq => ?_)
          rw [← Nat.add_assoc, ← Nat.add_assoc]
          exact hq
        · rcases v5 a ha with w | w
          · exact hFn a w
          · exact Or.inr (by omega)
        · rw [v8 b (by omega) b2 (by rcases hwd with w | w; rw [w]; exact b3; exact Or.inl (by omega)) (fun w => by rcases hFn b w with y | y; exact b4 y; omega) b5, zk b b5]
          exact hfr b b1 b2 b3 b4 b5
    obtain ⟨hat1, hat2⟩ := List.getElem?_eq_some_iff.mp hat
    obtain ⟨k0, k1, k2⟩ := w4 q (hat2 ▸ List.getElem_mem hat1)
    obtain ⟨r, e1, a, rfl, e2, e3⟩ := il_get (nx := nx) w1 hat1
    rw [hat2] at e3
    have hq36 : q < 36 := k2 ▸ fpt_36 hok k1
    obtain ⟨k, o1, o2, o3, o4⟩ := one_at (nx := nx) (x := q) (pt := fpt rs) (f := f) hV hM hpa (fun i hi => ⟨hf i hi, by have := fpt_36 hok hi; omega⟩) p4 (by omega) ⟨k0, k1, k2⟩
    rw [hL_X8_numbers_64]
    refine w_neg (fun z => by have := (nI_leq (a := 5) (b := s) (by omega) (by omega)).mp z; omega) ?_
    refine w_some (w_pos w1.gC (w_call0 e1 (w_pos (gok_at e3 (by simp)) (w_some (w_pos (gC_at e3) (w_call0 (intValue_at e3) (w_pos (gC_at hM) (w_call0 o1 (w_pos (gC_at hM) ?_)))))))))
    refine w_call (leads_at hV hC hM hP (hL.mono hnx) (by omega) (by omega) o2 (by omega) (p5 k o2 s (by omega))) ?_
    rintro y G1 c1 s1 ⟨rfl, l1, l2, l3, l4⟩
    have hd := dlP_any hok o2 (show s < 5 by omega)
    rw [o3] at hd
    have hN1 : NCtx V G1 nx0 mo po bo bd pl so nu lo ld pa ad rs Fp f := hN.keep (fun b b1 _ _ => l4 b (by omega))
    have hS1 : NSt V G1 rs nx0 (nx + c1) wo wd nu Fn W := hS.low (by omega) (by omega) (by omega) l4
    have hR1 : NRow V G1 nx0 (nx + c1) wo wd Fn ra g := ⟨(l4 ra r3).trans r1, r2, by omega, r4, r5, r6⟩
    obtain ⟨hC1, hM1, hP1, -, -, -, hpa1, -⟩ := id hN1
    obtain ⟨v1, v2, v3, v4, v5, v6, v7, v8, v9, v10, v11, v12⟩ := id hS1
    cases e : ldP rs (plcs rs) k s with
    | none =>
      rw [e] at hd
      have hd' : dlP rs q s = none := hd
      refine w_pos rfl ?_
      unfold hB_X8_numbers_167
      refine w_pos rfl ?_
      exact wr G1 _ c1 s1 wd Fn W _ (by unfold nSt; rw [hd']) hN1 hS1 hR1 (fun x hx => by rw [hd'] at hx; cases hx) (by rw [hd']; rfl) rfl (Or.inl rfl) (fun a ha => Or.inl ha) (by omega) (by omega) (fun b b1 _ _ _ _ => l4 b b1)
    | some k3 =>
      rw [e] at hd
      have hk3 := l3 k3 e
      have hd' : dlP rs q s = some (fpt rs k3) := hd
      have hx36 := fpt_36 hok hk3
      have hne5 : ¬ tell (some k3) = -5 := by
        intro z
        have := congrArg Int32.toInt z
        rw [show tell (some k3) = nI k3 from rfl, nI_toInt (by omega)] at this
        have e5 : (-5 : Int32).toInt = -5 := by decide
        rw [e5] at this
        omega
      have gc22 : ∀ {G : Gh} {F : Nat → Prop} {M : Nat → Option Nat} {cnt : Nat}, IM V G nu 22 F M cnt → gC G nu 22 = true := fun h => by
        obtain ⟨fs, z, -⟩ := h.cell22
        exact gC_at z
      -- the number is read
      have rd : ∀ (G6 : Gh) (nx6 cc ss wd6 : Nat) (Fn6 : Nat → Prop) (W6 : List Nat), W6 = nSt (dlP rs) q W s → NCtx V G6 nx0 mo po bo bd pl so nu lo ld pa ad rs Fp f → NSt V G6 rs nx0 nx6 wo wd6 nu Fn6 W6 → NRow V G6 nx0 nx6 wo wd6 Fn6 ra g → fpt rs k3 ∈ W6 → nx6 = nx + cc → (wd6 = wd ∨ nx ≤ wd6) → (∀ a, Fn6 a → Fn a ∨ nx ≤ a) → cc + 4 * W.length ≤ 2 + 4 * W6.length → ss + 300 * W.length ≤ 8 + 300 * W6.length → (∀ b, b < nx → b ≠ wo → (b ≠ wd ∨ b < V.1) → ¬ Fn b → b ≠ ra → G6 b = G b) →
          wH (hB_X8_numbers_167 V mo k47 (hL_X8_numbers_64 V mo k47 m) G6 nx6 (some wo) (nI at_) (some ra) (nI s) (nI k3)) (fun r G' c s' => Q r G' (cc + c) (ss + s')) := by
        intro G6 nx6 cc ss wd6 Fn6 W6 hW hN6 hS6 hR6 hx hnx6 hwd hFn hc hs hfr
        obtain ⟨jx, hjx⟩ := ixL_mem hx
        obtain ⟨hC6, hM6, -, -, -, -, hpa6, -⟩ := id hN6
        obtain ⟨u1, u2, -⟩ := id hS6
        unfold hB_X8_numbers_167
        refine w_neg hne5 (w_xR hM6 rfl rfl (w_xR hM6 rfl rfl (w_some (w_rdI hpa6 (gd_nI hk3 (by omega)) ?_))))
        rw [hf k3 hk3]
        obtain ⟨rv, f1, f2, rfl, f3, f4⟩ := valueOf_at (nx := nx6) hC6 (show fpt rs k3 < 128 by omega)
        refine w_call0 f1 (w_some (w_pos (gc22 u2) ?_))
        obtain ⟨rg, g1, g2, rfl, g3, g4⟩ := u2.get22 (nx := nx6 + 0) (by omega) ⟨f2, rfl, f3, f4⟩ (by omega) hjx
        refine w_call0 g1 (w_pos (gok_at g4 (by simp)) (w_some (w_pos (gC_at g4) (w_call0 (intValue_at g4) ?_))))
        exact wr G6 _ cc ss wd6 Fn6 W6 _ hW hN6 hS6 hR6 (fun x hx' => by rw [hd'] at hx'; cases hx'; exact hx) (by rw [hd']; show nI jx = tell (ixL W6 (fpt rs k3)); rw [hjx]; rfl) hnx6 hwd hFn hc hs hfr
      refine w_neg hne5 (w_xR hM1 rfl rfl (w_xR hM1 rfl rfl (w_some (w_rdI hpa1 (gd_nI hk3 (by omega)) ?_))))
      rw [hf k3 hk3]
      obtain ⟨rv, f1, f2, rfl, f3, f4⟩ := valueOf_at (nx := nx + 0 + 0 + 0 + c1) hC1 (show fpt rs k3 < 128 by omega)
      refine w_call0 f1 (w_some (w_pos (gc22 v2) (w_call0 (v2.has (by omega) ⟨f2, rfl, f3, f4⟩ (by omega)) ?_)))
      by_cases c : fpt rs k3 ∈ W
      · have hW : W = nSt (dlP rs) q W s := by
          unfold nSt
          rw [hd']
          exact (if_pos c).symm
        obtain ⟨jx, hjx⟩ := ixL_mem c
        refine w_neg (by rw [hjx, if_neg (by simp)]; decide) ?_
        exact rd G1 _ c1 s1 wd Fn W hW hN1 hS1 hR1 c rfl (Or.inl rfl) (fun a ha => Or.inl ha) (by omega) (by omega) (fun b b1 _ _ _ _ => l4 b b1)
      · have hW : W ++ [fpt rs k3] = nSt (dlP rs) q W s := by
          unfold nSt
          rw [hd']
          exact (if_neg c).symm
        have hm : ixL W (fpt rs k3) = none := if_neg c
        have hWl : W.length ≤ 36 := by
          have := nodup_sub w3 (m := List.range 36) (fun a ha => by
            obtain ⟨k, k1, k2⟩ := w4 a ha
            rw [← k2]; exact List.mem_range.mpr (fpt_36 hok k1))
          simpa using this
        refine w_pos (by rw [hm]; rfl) (w_xR hM1 rfl rfl (w_xR hM1 rfl rfl (w_some (w_rdI hpa1 (gd_nI hk3 (by omega)) ?_))))
        rw [hf k3 hk3]
        refine w_call0 (valueOf_at (nx := nx + 0 + 0 + 0 + c1 + 0 + 0) hC1 (show fpt rs k3 < 128 by omega)).choose_spec.1 ?_
        obtain ⟨f5, f6, f7, f8⟩ := (valueOf_at (nx := nx + 0 + 0 + 0 + c1 + 0 + 0) hC1 (show fpt rs k3 < 128 by omega)).choose_spec.2
        rw [f6]
        unfold hB_X8_numbers_136
        refine w_xR hM1 rfl rfl (w_some (w_pos (gc22 v2) (w_call0 v2.size ?_)))
        obtain ⟨rz, z1, z2, rfl, z3, z4⟩ := valueOf_at (nx := nx + 0 + 0 + 0 + c1 + 0 + 0 + 0 + 0) hC1 (show W.length < 128 by omega)
        refine w_call0 z1 (w_some (w_pos (gc22 v2) ?_))
        refine w_call (v2.put (by omega) ⟨f5, rfl, f7, f8⟩ ⟨z2, rfl, z3, z4⟩ (by omega) (by omega) hm (by omega) (fun y hy => by rcases v5 y hy with w | w <;> omega)) ?_
        rintro rp G2 c2 s2 ⟨t1, t2, t3, t4⟩
        have low2 : ∀ y, y < V.1 → G2 y = G1 y := fun y hy => t4 y (fun w => by rcases v5 y w with w | w <;> omega) (by omega)
        have hN2 : NCtx V G2 nx0 mo po bo bd pl so nu lo ld pa ad rs Fp f := hN1.keep (fun b b1 b2 _ => t4 b (fun w => by rcases v5 b w with w | w <;> omega) (by omega))
        obtain ⟨hC2, hM2, -, -, -, -, hpa2, -⟩ := id hN2
        refine w_xR hM2 rfl rfl (w_some (w_rdI hpa2 (gd_nI hk3 (by omega)) ?_))
        rw [hf k3 hk3]
        obtain ⟨ry, y1, y2, rfl, y3, y4⟩ := valueOf_at (nx := nx + 0 + 0 + 0 + c1 + 0 + 0 + 0 + 0 + 0 + c2) hC2 (show fpt rs k3 < 128 by omega)
        have hI2 : IL V G2 wo wd W := v1.keep (t4 wo v11 (by omega)) (t4 wd v12 (by omega)) low2
        refine w_call0 y1 (w_some (w_pos hI2.gC ?_))
        refine w_call (il_add (x := fpt rs k3) hI2 (by omega) ⟨y2, rfl, y3, y4⟩ ⟨by omega, by omega⟩ (by omega) (by omega)) ?_
        rintro - G3 c3 s3 ⟨-, i2, i3, ⟨wd3, i4, i5⟩, i6⟩
        have low3 : ∀ y, y < V.1 → G3 y = G2 y := fun y hy => i6 y (by omega) (Or.inr hy) (by omega)
        have hwd3 : (wd3 = wd ∧ c3 = 0) ∨ (wd3 = nx + c1 + c2 ∧ c3 = 1) := i5
        have hF3 : ¬ (fun a => Fn a ∨ (nx + c1 ≤ a ∧ a < nx + c1 + c2)) wd3 := by
          rintro (w | w)
          · rcases hwd3 with z | z
            · exact v12 (z.1 ▸ w)
            · rcases v5 _ w with y | y <;> omega
          · omega
        refine w_mono (rd G3 (nx + c1 + c2 + c3) (c1 + c2 + c3) (s1 + s2 + s3) wd3 (fun a => Fn a ∨ (nx + c1 ≤ a ∧ a < nx + c1 + c2)) (W ++ [fpt rs k3]) hW (hN2.keep (fun b b1 b2 _ => i6 b (by omega) (by omega) (by omega))) ⟨i4, ?_, ?_, ?_, ?_, w6, by omega, by omega, by omega, by omega, ?_, hF3⟩ ⟨?_, r2, by omega, r4, by omega, ?_⟩ (by simp) (by omega) (by omega) (fun a ha => by rcases ha with w | w; exact Or.inl w; exact Or.inr (by omega)) (by rw [List.length_append]; simp; omega) (by rw [List.length_append]; simp; omega) (fun b b1 b2 b3 b4 b5 => ?_)) ?_
        · rw [ixL_app c, List.length_append]
          refine t3.keep (fun y hy => i6 y ?_ ?_ ?_) low3
          · rintro rfl; rcases hy with w | w; exact v11 w; omega
          · refine Or.inl ?_
            rintro rfl; rcases hy with w | w; exact v12 w; omega
          · rcases hy with w | w; rcases v5 y w with z | z <;> omega; omega
        · have := addN_nd (x := fpt rs k3) w3
          unfold addN at this
          rwa [if_neg c] at this
        · intro y hy
          rcases List.mem_append.mp hy with w | w
          · exact w4 y w
          · exact ⟨k3, hk3, (List.mem_singleton.mp w).symm⟩
        · intro y hy
          rcases hy with w | w
          · rcases v5 y w with z | z
            · exact Or.inl z
            · exact Or.inr (by omega)
          · exact Or.inr (by omega)
        · rintro (w | w)
          · exact v11 w
          · omega
        · rw [i6 ra r4 (Or.inl r5) (by omega), t4 ra r6 (by omega)]; exact hR1.1
        · rintro (w | w)
          · exact r6 w
          · omega
        · rw [i6 b b2 b3 (by omega), t4 b b4 (by omega)]; exact l4 b b1
        · intro r' G' c' s' hq
          rw [show c1 + (c2 + (c3 + c')) = c1 + c2 + c3 + c' by omega, show s1 + (s2 + (s3 + s')) = s1 + s2 + s3 + s' by omega]
          exact hq
end X

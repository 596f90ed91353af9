/-! PURE 14: TreeMap.putAll, new TreeMaps -/
theorem nlz_at {V : HEn} {G : Gh} {nx : Nat} (a : Int32) : ∃ y, hF_J23_numberOfLeadingZeros V G nx a = some (y, G, 0, 0) := by
  unfold hF_J23_numberOfLeadingZeros hB_J23_numberOfLeadingZeros_33 hB_J23_numberOfLeadingZeros_48 hB_J23_numberOfLeadingZeros_61 hB_J23_numberOfLeadingZeros_73 hB_J23_numberOfLeadingZeros_14
  simp only [nmv]
  repeat' (first | exact ⟨_, rfl⟩ | split)
section T
variable {V : HEn} {G : Gh} {o o2 nx : Nat} {N N2 : Nat → Prop} {kv vv kv2 vv2 : Nat → Option Nat} {ps ps2 : Nat → Nat} {mc mc2 : Int32} {es ks es2 ks2 : Option Nat} {l : List (Nat × Nat)}
theorem TMx.cell (h : TMx V G o N kv vv ps mc es ks l) : ∃ fs, G o = some (.inr (10, fs)) := by
  obtain ⟨⟨x0, x1, x8, root, lf, rt, pa, co, lo, hi', h1, h2, h3⟩, h4⟩ := h
  exact ⟨_, h2⟩
theorem TMx.apart (h : TMx V G o N kv vv ps mc es ks l) {b : Nat} {fs : List Value} (hb : G b = some (.inr (10, fs))) (hne : b ≠ o) : ∀ a, (a = o ∨ N a ∨ es = some a ∨ ks = some a) → a ≠ b := by
  obtain ⟨⟨x0, x1, x8, root, lf, rt, pa, co, lo, hi', h1, h2, h3⟩, h4, h5, h6, h7, h8, h9⟩ := h
  intro a ha e
  subst e
  rcases ha with w | w | w | w
  · exact hne w
  · have := (h1 a w).1; rw [hb] at this; cases this
  · have := (h8 a w).1; rw [hb] at this; cases this
  · have := (h9 a w).1; rw [hb] at this; cases this
theorem putAll_at (hV : 200 ≤ V.2.2.2.2) (h : TMx V G o N kv vv ps mc es ks []) (h' : TMx V G o2 N2 kv2 vv2 ps2 mc2 es2 ks2 l) (hold : TOld o nx N es ks) (hold2 : TOld o2 nx N2 es2 ks2) (hne : o ≠ o2) :
    wH (hF_J4_putAll V G nx o (some o2)) (fun _ G' c s => c ≤ 2 + l.length ∧ s ≤ 5 + 6 * l.length ∧ (∃ N' kv' vv' ps' mc', TMx V G' o N' kv' vv' ps' mc' es ks l ∧ (∀ a, N' a → nx ≤ a ∧ a < nx + c)) ∧ (∃ es2', TMx V G' o2 N2 kv2 vv2 ps2 mc2 es2' ks2 l ∧ (∀ e, es2' = some e → es2 = some e ∨ (nx ≤ e ∧ e < nx + c))) ∧ ∀ b, b ≠ o → b ≠ o2 → b < nx → G' b = G b) := by
  have hc := h.cell
  have hc2 := h'.cell
  obtain ⟨fo, ho⟩ := hc
  obtain ⟨fo2, ho2⟩ := hc2
  have ap1 := h.apart ho2 (Ne.symm hne)
  have ap2 := h'.apart ho hne
  have h0 := h
  obtain ⟨⟨x0, x1, x8, root, lf, rt, pa, co, lo, hi', g1, g2, g3⟩, g4, g5, g6, g7, g8, g9⟩ := h0
  obtain ⟨o1, q2, q3, q4⟩ := hold
  have nN : ∀ a, ¬ N a := fun a z => by have := g3.1 a z; simp at this; omega
  have g2' : G o = some (tobj x0 x1 root (nI 0) mc es ks x8) := g2
  unfold hF_J4_putAll
  refine w_some (w_pos (gC_at ho2) (w_call0 (tm_size h') (w_xI g2' rfl rfl (w_pos nI_0 ?_))))
  have hb2 : V.1 ≤ o2 := h'.2.2.2.1
  -- entry set and iterator of the source
  have hsrc : ∀ (G1 : Gh) (nx1 : Nat) (mcx : Int32), nx1 = nx → TMx V G1 o N kv vv ps mcx es ks [] → TMx V G1 o2 N2 kv2 vv2 ps2 mc2 es2 ks2 l → wH (hF_J4_entrySet V G1 nx1 o2) (fun r G' c s => ∃ k, r = some k ∧ TMx V G' o N kv vv ps mcx es ks [] ∧ TMx V G' o2 N2 kv2 vv2 ps2 mc2 (some k) ks2 l ∧ TOld o2 (nx + c) N2 (some k) ks2 ∧ (es2 = some k ∨ (nx ≤ k ∧ k < nx + c)) ∧ c ≤ 1 ∧ s ≤ 1 ∧ ∀ b, b ≠ o2 → b < nx → G' b = G1 b) := by
    intro G1 nx1 mcx e1 e2 e3
    subst e1
    refine w_mono (entrySet_at e3 hold2) ?_
    rintro r G' c s ⟨k, rfl, t1, t2, t3⟩
    obtain ⟨z1, z2, z3, z4⟩ := hold2
    refine ⟨k, rfl, e2.keep (fun a ha => t3 a (ap1 a ha) ?_) (fun a ha => t3 a (by omega) (by omega)), t1, ⟨by omega, fun a ha => by have := z2 a ha; omega, fun e he => ?_, fun e he => by have := z4 e he; omega⟩, ?_, ?_, ?_, fun b hb hb2 => t3 b hb (by omega)⟩
    · rcases ha with w | w | w | w
      · omega
      · have := q2 a w; omega
      · have := q3 a w; omega
      · have := q4 a w; omega
    · cases he
      rcases t2 with ⟨w, rfl, rfl⟩ | ⟨rfl, rfl, rfl⟩
      · have := z3 _ w; omega
      · omega
    · rcases t2 with ⟨w, rfl, rfl⟩ | ⟨rfl, rfl, rfl⟩
      · exact Or.inl w
      · exact Or.inr (by omega)
    · rcases t2 with ⟨w, rfl, rfl⟩ | ⟨rfl, rfl, rfl⟩ <;> omega
    · rcases t2 with ⟨w, rfl, rfl⟩ | ⟨rfl, rfl, rfl⟩ <;> omega
  have l100 := h'.2.2.2.2.1
  by_cases hl : l.length = 0
  · -- nothing to copy
    have e0 : l = [] := List.eq_nil_of_length_eq_zero hl
    subst e0
    refine w_pos nI_0 ?_
    unfold hB_J4_putAll_77 hF_J3_putAll
    refine w_pos (gC_at ho) ?_
    apply w_cB
    refine w_some (w_pos (gC_at ho2) ?_)
    refine w_call (hsrc G (nx + 0) mc rfl h h') ?_
    rintro r G1 c s ⟨k, rfl, t1, t2, t3, t4, t5, t6, t7⟩
    have hkc := (t2.2.2.2.2.2.1 k rfl).1
    refine w_some (w_pos (gC_at hkc) ?_)
    refine w_call (entryIt_at (nx := nx + 0 + c) hV t2 t3) ?_
    rintro r G2 c2 s2 ⟨rfl, rfl, rfl, u1, u2⟩
    obtain ⟨m, hm⟩ := Nat.exists_eq_succ_of_ne_zero (show V.2.2.2.2 ≠ 0 by omega)
    rw [hm, hL_J3_putAll_12]
    have u1' := u1
    obtain ⟨nxt, lr, i1, i2⟩ := u1'
    refine w_some (w_pos (gC_at i1) (w_call0 (hasNext_at (Or.inr rfl) u1 (fun a ha => by
      obtain ⟨⟨y0, y1, y8, yroot, ylf, yrt, ypa, yco, ylo, yhi, yg1, yg2, yg3⟩, yg4⟩ := t2
      have := yg3.1 a ha; omega)) (w_pos rfl (w_ret (w_ret ?_)))))
    clear i2
    have old2 : ∀ a, (a = o2 ∨ N2 a ∨ some k = some a ∨ ks2 = some a) → a ≠ nx + 0 + c := by
      intro a ha
      obtain ⟨z1, z2, z3, z4⟩ := t3
      rcases ha with w | w | w | w
      · omega
      · have := z2 a w; omega
      · have := z3 a w; omega
      · have := z4 a w; omega
    refine ⟨by simp only [List.length_nil]; omega, by simp only [List.length_nil]; omega, ⟨N, kv, vv, ps, mc, t1.keep (fun a ha => u2 a ?_) (fun a ha => u2 a (by omega)), fun a ha => absurd ha (nN a)⟩, ⟨some k, t2.keep (fun a ha => u2 a (old2 a ha)) (fun a ha => u2 a (by omega)), fun e he => ?_⟩, fun b b1 b2 b3 => by rw [u2 b (by omega)]; exact t7 b b2 b3⟩
    · rcases ha with w | w | w | w
      · omega
      · have := q2 a w; omega
      · have := q3 a w; omega
      · have := q4 a w; omega
    · cases he
      rcases t4 with w | w
      · exact Or.inl w
      · exact Or.inr (by omega)
  · refine w_neg (fun z => nI_ne0 (by omega) (by omega) z) ?_
    refine w_bind (v := (1 : Int32)) ?_ ?_
    · show (if [10].any (gC G o2) = true then some (1 : Int32) else _) = _
      rw [if_pos (by simp [gC_at ho2])]
    · refine w_neg (by decide) (w_xR g2' rfl rfl (w_pos (gok_at ho2 (by simp)) (w_pos (gC_at ho2) ?_)))
      have hcmp : ∀ nx, hF_J4_comparator V G nx o2 = some (none, G, 0, 0) := by
        intro nx
        obtain ⟨⟨y0, y1, y8, yroot, ylf, yrt, ypa, yco, ylo, yhi, yg1, yg2, yg3⟩, yg4⟩ := h'
        unfold hF_J4_comparator
        rw [xR_at (r := none) yg2 rfl rfl]
        rfl
      refine w_call0 (hcmp _) (w_call0 (r := (1 : Int32)) (G := G) rfl (w_neg (by decide) ?_))
      refine w_xI g2' rfl rfl (w_xF g2' rfl (Nat.le_of_ble_eq_true rfl) g6 rfl ?_)
      generalize hG1 : gset G o _ = G1
      have k1 : ∀ a, a ≠ o → G1 a = G a := fun a ha => by rw [← hG1, gset_ne _ _ ha]
      have ho1 : G1 o = some (tobj x0 x1 root (nI 0) (mc + 1) es ks x8) := by rw [← hG1, gset_eq]; rfl
      clear hG1
      have hA : TMx V G1 o N kv vv ps (mc + 1) es ks [] := by
        refine ⟨⟨x0, x1, x8, root, lf, rt, pa, co, lo, hi', g1.keep (fun a ha => absurd ha (nN a)), ho1, g3⟩, fun a ha => absurd ha (nN a), g5, g6, g7, fun e he => ?_, fun e he => ?_⟩
        · have w := g8 e he
          rw [k1 e (fun z => by subst z; rw [ho] at w; cases w.1)]; exact w
        · have w := g9 e he
          rw [k1 e (fun z => by subst z; rw [ho] at w; cases w.1)]; exact w
      have hB : TMx V G1 o2 N2 kv2 vv2 ps2 mc2 es2 ks2 l := h'.keep (fun a ha => k1 a (ap2 a ha)) (fun a ha => k1 a (by omega))
      refine w_pos (gC_at ((k1 o2 (Ne.symm hne)).trans ho2)) ?_
      refine w_call (hsrc G1 _ (mc + 1) rfl hA hB) ?_
      rintro r G2 c s ⟨k, rfl, t1, t2, t3, t4, t5, t6, t7⟩
      have hkc := (t2.2.2.2.2.2.1 k rfl).1
      refine w_some (w_pos (gC_at hkc) ?_)
      refine w_call (entryIt_at (nx := nx + 0 + 0 + 0 + c) hV t2 t3) ?_
      rintro r G3 c3 s3 ⟨rfl, rfl, rfl, u1, u2⟩
      show wH (if gC G3 o 10 = true then _ else none) _
      have hoz : o < nx + c := by omega
      have ho3 : G3 o = some (tobj x0 x1 root (nI 0) (mc + 1) es ks x8) := by
        rw [u2 o (by omega), t7 o hne o1]; exact ho1
      have tm3 : TMx V G3 o2 N2 kv2 vv2 ps2 mc2 (some k) ks2 l := by
        obtain ⟨z1, z2, z3, z4⟩ := t3
        refine t2.keep (fun a ha => u2 a ?_) (fun a ha => u2 a (by omega))
        rcases ha with w | w | w | w
        · omega
        · have := z2 a w; omega
        · have := z3 a w; omega
        · have := z4 a w; omega
      refine w_pos (gC_at ho3) ?_
      unfold hF_J4_buildFromSorted
      apply w_cB
      refine w_xF ho3 rfl (Nat.le_of_ble_eq_true rfl) g6 rfl ?_
      generalize hG4 : gset G3 o _ = G4
      have k4 : ∀ a, a ≠ o → G4 a = G3 a := fun a ha => by rw [← hG4, gset_ne _ _ ha]
      have ho4 : G4 o = some (tobj x0 x1 root (nI l.length) (mc + 1) es ks x8) := by rw [← hG4, gset_eq]; rfl
      clear hG4
      obtain ⟨rd, hrd⟩ := nlz_at (V := V) (G := G4) (nx := nx + 0 + 0 + 0 + c + 1) (nI l.length + 1)
      refine w_call0 (r := 31 - rd) (G := G4) (by unfold hF_J4_computeRedLevel; rw [hrd]; rfl) (w_pos (gC_at ho4) ?_)
      have hzz : nx + 0 + 0 + 0 + c + 1 + 0 = (nx + c + 1) + 0 := rfl
      rw [show nI l.length - 1 = nI (l.length - 1) from nI_sub (a := l.length) (b := 1) (by omega)]
      obtain ⟨z1, z2, z3, z4⟩ := t3
      have sapart : ∀ a, (a = o2 ∨ N2 a ∨ some k = some a ∨ ks2 = some a) → a < nx + c := by
        intro a ha
        rcases ha with w | w | w | w
        · omega
        · exact z2 a w
        · exact z3 a w
        · exact z4 a w
      have sapo : ∀ a, (a = o2 ∨ N2 a ∨ some k = some a ∨ ks2 = some a) → a ≠ o := tm3.apart ho3 hne
      refine w_call (build_at (o := o) (z := nx + c + 1) (it := nx + c) hV ⟨by omega, fun a ha => by have := z2 a ha; omega, fun e he => by have := z3 e he; omega, fun e he => by have := z4 e he; omega⟩ (by omega) (by omega) (by omega) (by omega) (fun w => by have := z2 _ w; omega) (fun w => by have := z3 _ w; omega) (fun w => by have := z4 _ w; omega) (by omega) (by omega) l100 8 0 l.length _ G4 0 (by omega) (Nat.le_refl _) (by omega) hzz ho4 (tm3.keep (fun a ha => k4 a (sapo a ha)) (fun a ha => k4 a (by omega))) ?_) ?_
      · obtain ⟨nxt, lr, i1, i2⟩ := u1
        exact ⟨nxt, lr, by rw [k4 _ (by omega)]; exact i1, i2⟩
      · rintro r G5 c5 s5 ⟨rfl, rfl, ⟨lf5, rt5, pa5, co5, lo5, hi5, kv5, vv5, v1, v2, v3⟩, v4, v5⟩
        have ho5 : G5 o = some (tobj x0 x1 root (nI l.length) (mc + 1) es ks x8) := by rw [v5 o (by omega) (by omega)]; exact ho4
        refine w_xF ho5 rfl (Nat.le_of_ble_eq_true rfl) g6 rfl (w_ret (w_ret ?_))
        generalize hG6 : gset G5 o _ = G6
        have k6 : ∀ a, a ≠ o → G6 a = G5 a := fun a ha => by rw [← hG6, gset_ne _ _ ha]
        have ho6 : G6 o = some (tobj x0 x1 r (nI l.length) (mc + 1) es ks x8) := by rw [← hG6, gset_eq]; rfl
        clear hG6
        have kall : ∀ b, b ≠ o → b ≠ nx + c → b < nx + c + 1 → G6 b = G3 b := fun b b1 b2 b3 => by rw [k6 b b1, v5 b b2 (by omega), k4 b b1]
        have kold : ∀ b, b ≠ o → b ≠ o2 → b < nx → G6 b = G b := fun b b1 b2 b3 => by rw [kall b b1 (by omega) (by omega), u2 b (by omega), t7 b b2 b3, k1 b b1]
        refine ⟨by omega, by omega, ⟨rng (nx + c + 1) 0 l.length, kv5, vv5, fun a => a - (nx + c + 1), mc + 1, ⟨⟨x0, x1, x8, r, lf5, rt5, pa5, co5, lo5, hi5, v1.keep (fun a ha => k6 a (v1 a ha).2.2.1), ho6, v2.top⟩, ?_, h'.2.2.1, g6, l100, ?_, ?_⟩, ?_⟩, ⟨some k, tm3.keep (fun a ha => kall a (sapo a ha) (by have := sapart a ha; omega) (by have := sapart a ha; omega)) (fun a ha => kall a (by omega) (by omega) (by omega)), ?_⟩, kold⟩
        · intro a ha
          obtain ⟨k', v', w1, w2, w3, w4, w5⟩ := v3 a ha
          exact ⟨k', v', w1, w2.keep (fun b hb => k6 b (by omega)), w3.keep (fun b hb => k6 b (by omega)), w4, w5⟩
        · intro e he
          have w := g8 e he
          have we : e ≠ o := fun z => by subst z; rw [ho] at w; cases w.1
          rw [kold e we (ap1 e (Or.inr (Or.inr (Or.inl he)))) (q3 e he)]; exact w
        · intro e he
          have w := g9 e he
          have we : e ≠ o := fun z => by subst z; rw [ho] at w; cases w.1
          rw [kold e we (ap1 e (Or.inr (Or.inr (Or.inr he)))) (q4 e he)]; exact w
        · intro a ha
          simp only [rng] at ha
          omega
        · intro e he
          cases he
          rcases t4 with w | w
          · exact Or.inl w
          · exact Or.inr (by omega)
theorem tm_new (hb : V.1 ≤ o) (h : G o = some (.inr (10, [.null, .null, .null, .null, .int 0, .int 0, .null, .null, .null]))) : wH (hF_J4_init V G nx o) (fun _ G' c s => c = 0 ∧ s = 0 ∧ TMx V G' o (fun _ => False) (fun _ => none) (fun _ => none) (fun _ => 0) 0 none none [] ∧ ∀ b, b ≠ o → G' b = G b) := by
  unfold hF_J4_init hF_J3_init
  refine w_call0 (r := ()) (G := G) rfl (w_xF h rfl (Nat.le_of_ble_eq_true rfl) hb rfl (w_xF (gset_eq _ _ _) rfl (Nat.le_of_ble_eq_true rfl) hb rfl (w_xF (gset_eq _ _ _) rfl (Nat.le_of_ble_eq_true rfl) hb rfl (w_ret ?_))))
  refine ⟨rfl, rfl, ⟨⟨none, none, none, none, fun _ => none, fun _ => none, fun _ => none, fun _ => 0, fun _ => 0, fun _ => 0, fun a ha => ha.elim, gset_eq _ _ _, ?_⟩, fun a ha => ha.elim, fun i j x y _ hx => by simp at hx, hb, by simp, fun e he => (by cases he), fun e he => (by cases he)⟩, fun b hb => by rw [gset_ne _ _ hb, gset_ne _ _ hb, gset_ne _ _ hb]⟩
  exact ⟨fun a ha => ha.elim, fun a b ha => ha.elim, fun i hi => by simp at hi, fun r e => (by cases e), fun _ => rfl, fun a ha => ha.elim, fun a b ha => ha.elim, fun a ha => ha.elim, fun a b ha => ha.elim, fun a b ha => ha.elim, fun a ha => ha.elim⟩
end T

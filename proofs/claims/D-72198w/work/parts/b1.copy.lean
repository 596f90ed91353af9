/-! PURE 68: new plans, new desks; Desk.copy -/
def dfl : Pn := ([], [1, 2, 4, 2, 1], 1, 4)
theorem dfl_ok : PnOk dfl := ⟨⟨fun r h => by simp [dfl] at h, by decide, by decide⟩, rfl, rfl, by decide, by decide, by decide⟩
section X
variable {V : HEn} {G : Gh} {nx o : Nat}
theorem plan_new (hC : Cst V G) (hb : V.1 ≤ o) (ho : o < nx) (h : G o = some (.inr (2, [.null, .null, .int 0, .int 0, .null]))) :
    wH (hF_X2_init V G nx o) (fun _ G' c s => c = 2 ∧ s = 8 ∧ (∃ e0 f, e0 < V.1 ∧ G' o = some (pcell nx (nx + 1) dfl none) ∧ AL V G' nx e0 [] ∧ G' (nx + 1) = some (.inl (V.2.1 0, 5, .inl f)) ∧ ∀ i, i < 5 → f i = nI (dfl.2.1.getD i 0)) ∧ ∀ b, b ≠ o → b < nx → G' b = G b) := by
  obtain ⟨⟨e0, ff, e1, e2, e3⟩, -⟩ := hC
  unfold hF_X2_init
  refine w_tick (w_call (al_init (f := ff) (gset_eq _ _ _) (by omega) e1 e2 (by rw [gset_ne _ _ (by omega)]; exact e3)) ?_)
  rintro - G1 c1 s1 ⟨t1, t2, rfl, rfl⟩
  have k1 : ∀ b, b ≠ nx → G1 b = G b := fun b hb' => by rw [t2 b hb']; exact gset_ne _ _ hb'
  refine w_xF (fs' := [va_rf (some nx), .null, .int 0, .int 0, .null]) (by rw [k1 o (by omega)]; exact h) rfl (Nat.le_of_ble_eq_true rfl) hb rfl (w_gn (n := 5) (by omega) (w_tick ?_))
  refine w_wrI (i := 0) (j := 0) (gset_eq _ _ _) (by omega) (by decide) ?_
  refine w_wrI (i := 1) (j := 1) (gset_eq _ _ _) (by omega) (by decide) ?_
  refine w_wrI (i := 2) (j := 2) (gset_eq _ _ _) (by omega) (by decide) ?_
  refine w_wrI (i := 3) (j := 3) (gset_eq _ _ _) (by omega) (by decide) ?_
  refine w_wrI (i := 4) (j := 4) (gset_eq _ _ _) (by omega) (by decide) ?_
  generalize hG2 : gset (gset (gset (gset (gset (gset (gset G1 o _) _ _) _ _) _ _) _ _) _ _) _ _ = G2
  have k2 : ∀ b, b ≠ nx + 1 → b ≠ o → G2 b = G1 b := fun b b1 b2 => by
    rw [← hG2, gset_ne _ _ b1, gset_ne _ _ b1, gset_ne _ _ b1, gset_ne _ _ b1, gset_ne _ _ b1, gset_ne _ _ b1, gset_ne _ _ b2]
  have k2o : G2 o = some (.inr (2, [va_rf (some nx), .null, .int 0, .int 0, .null])) := by
    have b1 : o ≠ nx + 1 + 0 := by omega
    rw [← hG2, gset_ne _ _ b1, gset_ne _ _ b1, gset_ne _ _ b1, gset_ne _ _ b1, gset_ne _ _ b1, gset_ne _ _ b1]
    exact gset_eq _ _ _
  have k2n : G2 (nx + 1) = some (.inl (V.2.1 0, 5, .inl (upd (upd (upd (upd (upd (fun _ => (0 : Int32)) 0 1) 1 2) 2 4) 3 2) 4 1))) := by
    rw [← hG2]; exact gset_eq _ _ _
  clear hG2
  refine w_xF (fs' := [va_rf (some nx), va_rf (some (nx + 1)), .int 0, .int 0, .null]) k2o rfl (Nat.le_of_ble_eq_true rfl) hb rfl ?_
  refine w_xF (fs' := [va_rf (some nx), va_rf (some (nx + 1)), .int 1, .int 0, .null]) (gset_eq _ _ _) rfl (Nat.le_of_ble_eq_true rfl) hb rfl ?_
  refine w_xF (fs' := [va_rf (some nx), va_rf (some (nx + 1)), .int 1, .int 4, .null]) (gset_eq _ _ _) rfl (Nat.le_of_ble_eq_true rfl) hb rfl ?_
  have k3 : ∀ x y z b, b ≠ o → gset (gset (gset G2 o x) o y) o z b = G2 b := fun x y z b hb' => by rw [gset_ne _ _ hb', gset_ne _ _ hb', gset_ne _ _ hb']
  refine w_ret ⟨rfl, rfl, ⟨e0, upd (upd (upd (upd (upd (fun _ => (0 : Int32)) 0 1) 1 2) 2 4) 3 2) 4 1, e2, gset_eq _ _ _, t1.keep ?_ ?_, ?_, ?_⟩, fun b b1 b2 => ?_⟩
  · rw [k3 _ _ _ nx (by omega), k2 nx (by omega) (by omega)]
  · rw [k3 _ _ _ e0 (by omega), k2 e0 (by omega) (by omega)]
  · rw [k3 _ _ _ (nx + 1) (by omega)]; exact k2n
  · decide
  · rw [k3 _ _ _ b b1, k2 b (by omega) b1, k1 b (by omega)]
theorem desk_new (hC : Cst V G) (hb : V.1 ≤ o) (ho : o < nx) (h : G o = some (.inr (1, [.null, .null]))) :
    wH (hF_X1_init V G nx o) (fun _ G' c s => c = 4 ∧ s = 22 ∧ G' o = some (.inr (1, [va_rf (some nx), va_rf (some (nx + 3))])) ∧ TM V G' (nx + 3) (fun a => a = nx + 3) [] ∧ (∃ e0 f, e0 < V.1 ∧ G' nx = some (pcell (nx + 1) (nx + 2) dfl none) ∧ AL V G' (nx + 1) e0 [] ∧ G' (nx + 2) = some (.inl (V.2.1 0, 5, .inl f)) ∧ ∀ i, i < 5 → f i = nI (dfl.2.1.getD i 0)) ∧ ∀ b, b ≠ o → b < nx → G' b = G b) := by
  unfold hF_X1_init
  refine w_tick (w_call (plan_new (hC.keep (fun a ha => gset_ne _ _ (by omega))) (by omega) (by omega) (gset_eq _ _ _)) ?_)
  rintro - G1 c1 s1 ⟨rfl, rfl, ⟨e0, f, t1, t2, t3, t4, t5⟩, t6⟩
  have k1 : ∀ b, b < nx → G1 b = G b := fun b hb' => by rw [t6 b (by omega) (by omega)]; exact gset_ne _ _ (by omega)
  refine w_xF (fs' := [va_rf (some nx), .null]) (by rw [k1 o ho]; exact h) rfl (Nat.le_of_ble_eq_true rfl) hb rfl (w_tick ?_)
  refine w_call (TM.new (show V.1 ≤ nx + 1 + 2 by omega) (gset_eq _ _ _)) ?_
  rintro - G2 c2 s2 ⟨rfl, rfl, u1, u2⟩
  have k2 : ∀ b, b ≠ nx + 3 → b ≠ o → G2 b = G1 b := fun b b1 b2 => by rw [u2 b (by omega), gset_ne _ _ (by omega), gset_ne _ _ b2]
  refine w_xF (fs' := [va_rf (some nx), va_rf (some (nx + 3))]) (by rw [u2 o (by omega), gset_ne _ _ (by omega)]; exact gset_eq _ _ _) rfl (Nat.le_of_ble_eq_true rfl) hb rfl ?_
  have k3 : ∀ x b, b ≠ o → gset G2 o x b = G2 b := fun x b hb' => gset_ne _ _ hb'
  refine w_ret ⟨rfl, rfl, gset_eq _ _ _, u1.keep (fun a ha => k3 _ a (by omega)) (fun a ha => k3 _ a (by omega)), ⟨e0, f, t1, ?_, t3.keep ?_ ?_, ?_, t5⟩, fun b b1 b2 => ?_⟩
  · rw [k3 _ nx (by omega), k2 nx (by omega) (by omega)]; exact t2
  · rw [k3 _ (nx + 1) (by omega), k2 (nx + 1) (by omega) (by omega)]
  · rw [k3 _ e0 (by omega), k2 e0 (by omega) (by omega)]
  · rw [k3 _ (nx + 2) (by omega), k2 (nx + 2) (by omega) (by omega)]; exact t4
  · rw [k3 _ b b1, k2 b (by omega) b1, k1 b b2]
theorem copy_at {po to : Nat} {F : Nat → Prop} {l : List (Nat × Nat)} (hV : 1200 ≤ V.2.2.2.2) (hC : Cst V G) (hb : V.1 ≤ nx) (h : G o = some (.inr (1, [va_rf (some po), va_rf (some to)]))) (ho : o < nx) (hot : o ≠ to) (hT : TM V G to F l) (hF : ∀ a, F a → a < nx) :
    wH (hF_X1_copy V G nx o) (fun r G' c s => r = some nx ∧ 5 ≤ c ∧ c ≤ 7 + l.length ∧ s ≤ 29 + 6 * l.length ∧ G' nx = some (.inr (1, [va_rf (some po), va_rf (some (nx + 4))])) ∧ (∃ e, TM V G' (nx + 4) (fun a => a = nx + 4 ∨ (nx + 5 ≤ a ∧ a < nx + c ∧ a ≠ e)) l ∧ TM V G' to (fun a => F a ∨ (nx + 5 ≤ a ∧ a < nx + c ∧ a = e)) l) ∧ ∀ b, b < nx → b ≠ to → G' b = G b) := by
  have hto := hT.fo.1
  have htl := hF _ hto
  unfold hF_X1_copy
  refine w_tick (w_call (desk_new (hC.keep (fun a ha => gset_ne _ _ (by omega))) (show V.1 ≤ nx by omega) (show nx < nx + 1 by omega) (gset_eq _ _ _)) ?_)
  rintro - G1 c1 s1 ⟨rfl, rfl, t1, t2, -, t3⟩
  have k1 : ∀ b, b < nx → G1 b = G b := fun b hb' => by rw [t3 b (by omega) (by omega)]; exact gset_ne _ _ (by omega)
  refine w_xR (by rw [k1 o ho]; exact h) rfl rfl (w_xF (fs' := [va_rf (some po), va_rf (some (nx + 4))]) t1 rfl (Nat.le_of_ble_eq_true rfl) (by omega) rfl ?_)
  have k2 : ∀ x b, b ≠ nx → gset G1 nx x b = G1 b := fun x b hb' => gset_ne _ _ hb'
  refine w_xR (gset_eq _ _ _) rfl rfl (w_xR (by rw [k2 _ o (by omega), k1 o ho]; exact h) rfl rfl (w_some ?_))
  generalize hG2 : gset G1 nx (.inr (1, [va_rf (some po), va_rf (some (nx + 4))])) = G2
  have k2' : ∀ b, b ≠ nx → G2 b = G1 b := fun b hb' => by rw [← hG2]; exact gset_ne _ _ hb'
  have hN2 : G2 nx = some (.inr (1, [va_rf (some po), va_rf (some (nx + 4))])) := by rw [← hG2]; exact gset_eq _ _ _
  clear hG2
  have hT2 : TM V G2 (nx + 4) (fun a => a = nx + 4) [] := t2.keep (fun a ha => k2' a (by omega)) (fun a ha => k2' a (by omega))
  have hS2 : TM V G2 to F l := hT.keep (fun a ha => by have := hF a ha; rw [k2' a (by omega), k1 a this]) (fun a ha => by rw [k2' a (by omega), k1 a (by omega)])
  refine w_pos hT2.gC ?_
  refine w_call (TM.putAll (by omega) hT2 hS2 (fun a ha => by omega) (fun a ha => by have := hF a ha; omega) (by omega)) ?_
  rintro - G3 c3 s3 ⟨u1, u2, ⟨e, u3, u4⟩, u5⟩
  refine w_ret ⟨rfl, by omega, by omega, by omega, ?_, ⟨e, u3.mono (fun a ha => ?_), u4.mono (fun a ha => ?_)⟩, fun b b1 b2 => ?_⟩
  · rw [u5 nx (by omega) (by omega) (by omega)]; exact hN2
  · rcases ha with w | w
    · exact Or.inl w
    · exact Or.inr ⟨by omega, by omega, w.2.2⟩
  · rcases ha with w | w
    · exact Or.inl w
    · exact Or.inr ⟨by omega, by omega, w.2.2⟩
  · rw [u5 b (by omega) b2 (by omega), k2' b (by omega), k1 b b1]
end X
section X
variable {V : HEn} {G : Gh} {nx xo d0 da ia ro rd tx : Nat} {tg : Nat → Nat} {st : Nat × Nat × Nat} {k0 : Dk} {pl : List (Nat × Dk)} {i0 i1 : Option (Nat × Dk)} {txt : List Nat} {U : Nat → Prop}
/-- a copy of one of the desks -/
theorem copy_w {e : Nat × Dk} (hV : 1200 ≤ V.2.2.2.2) (h : Wc V G nx xo tg d0 da ia ro rd tx st k0 pl i0 i1 txt U) (he : e ∈ dsk d0 k0 pl i0 i1) : wH (hF_X1_copy V G nx e.1) (fun r G' c s => r = some nx ∧ c ≤ 47 ∧ s ≤ 269 ∧ nx < nx + c ∧ ∃ tg', (∀ a, a < nx → tg' a = tg a) ∧ Wc V G' (nx + c) xo tg' d0 da ia ro rd tx st k0 pl i0 i1 txt U ∧ DkA V G' tg' U nx e.2 ∧ (∀ a, tg a ≠ 0 → tg a ≠ e.1 → G' a = G a) ∧ (∀ a, a < V.1 → G' a = G a)) := by
  obtain ⟨hx0, hr0, ht0, rx, txx, txr, rdx, rdr, dax, iax, ⟨fro, hro⟩, ⟨ftx, htx⟩, hds⟩ := h.heads
  obtain ⟨⟨a1, a2, a3, a4, a5⟩, b1, ⟨c1, c2, c3⟩, ⟨fd, d1, d2, d3⟩, ⟨fi, e1, e2, e3, e4⟩, da1, ⟨⟨rl, f1⟩, f2, f3⟩, ⟨td, tn, g1, g2, g3, g4, g5⟩, h1, h2, h3⟩ := h
  obtain ⟨hD0, hok0⟩ := h1 e he
  obtain ⟨z0, zx, zr, zt⟩ := hds e he
  obtain ⟨po, to, q1, q2, q3, q4, q5⟩ := id hD0
  obtain ⟨lo, ld, ad, ch, mcx, f, p1, -, -, -, -, -, -, -, -, p10, -⟩ := id q5
  have poz : po ≠ 0 := by omega
  have pod : po ≠ e.1 := hd_ne p1 q1 (by decide)
  have hto := q4.fo.1
  have hl40 := hok0.2.2.1
  have sd : ∀ {a : Nat}, tg a = e.1 → a < nx ∧ V.1 ≤ a := fun {a} ea => by
    have := b1 a (by rw [ea]; exact z0)
    exact ⟨this.2, this.1⟩
  refine w_mono (copy_at (F := fun a => tg a = e.1 ∧ a ≠ e.1) hV a3 a2 q1 (sd q2).1 (fun w => hto.2 w.symm) q4 (fun a ha => (sd ha.1).1)) ?_
  rintro r G' c s ⟨rfl, u0, u1, u2, u3, ⟨en, u4, u5⟩, u6⟩
  have fr : ∀ a, tg a ≠ 0 → tg a ≠ e.1 → G' a = G a := fun a w1 w2 => u6 a (b1 a w1).2 (fun w => w2 (by rw [w]; exact hto.1))
  have fc : ∀ a, a < V.1 → G' a = G a := fun a ha => u6 a (by omega) (by have := (sd hto.1).2; omega)
  have old : ∀ {nt : Nat → Nat} {a : Nat}, tg a ≠ 0 → tgN nx tg nt a = tg a := fun {nt a} w => tgN_old (b1 a w).2
  refine ⟨rfl, by omega, by omega, by omega, tgN nx tg (fun a => if a = nx ∨ a = nx + 4 then nx else if nx + 5 ≤ a ∧ a < nx + c then (if a = en then e.1 else nx) else 0), fun a ha => tgN_old ha, ⟨⟨a1, by omega, a3.keep fc, a4.keep fc, a5.keep fc⟩, fun a ha => ?_, ⟨?_, ?_, c3⟩, ⟨fd, ?_, ?_, d3⟩, ⟨fi, ?_, ?_, e3, e4⟩, da1, ⟨⟨rl, f1.keep ?_ ?_⟩, ?_, ?_⟩, ⟨td, tn, g1.keep ?_ ?_, ?_, ?_, g4, g5⟩, fun e' he' => ⟨?_, (h1 e' he').2⟩, h2, h3⟩, ?_, fr, fc⟩
  · by_cases ca : a < nx
    · rw [tgN_old ca] at ha
      have := b1 a ha
      omega
    · rw [tgN_new (by omega)] at ha
      by_cases c2' : a = nx ∨ a = nx + 4
      · omega
      · rw [if_neg c2'] at ha
        by_cases c3' : nx + 5 ≤ a ∧ a < nx + c
        · omega
        · rw [if_neg c3'] at ha; exact absurd rfl ha
  · rw [fr xo (by rw [c2]; exact hx0) (by rw [c2]; exact Ne.symm zx)]; exact c1
  · rw [old (by rw [c2]; exact hx0)]; exact c2
  · rw [fr da (by rw [d2]; exact hx0) (by rw [d2]; exact Ne.symm zx)]; exact d1
  · rw [old (by rw [d2]; exact hx0)]; exact d2
  · rw [fr ia (by rw [e2]; exact hx0) (by rw [e2]; exact Ne.symm zx)]; exact e1
  · rw [old (by rw [e2]; exact hx0)]; exact e2
  · exact fr ro (by rw [f2]; exact hr0) (by rw [f2]; exact Ne.symm zr)
  · rcases f3 with w | w
    · exact fr rd (by rw [w]; exact hr0) (by rw [w]; exact Ne.symm zr)
    · exact fc rd w
  · rw [old (by rw [f2]; exact hr0)]; exact f2
  · rcases f3 with w | w
    · exact Or.inl (by rw [old (by rw [w]; exact hr0)]; exact w)
    · exact Or.inr w
  · exact fr tx (by rw [g2]; exact ht0) (by rw [g2]; exact Ne.symm zt)
  · exact fr td (by rw [g3]; exact ht0) (by rw [g3]; exact Ne.symm zt)
  · rw [old (by rw [g2]; exact ht0)]; exact g2
  · rw [old (by rw [g3]; exact ht0)]; exact g3
  · by_cases ce : e'.1 = e.1
    · have ee : e' = e := by
        obtain ⟨i, hi, ei⟩ := List.getElem_of_mem he'
        obtain ⟨j, hj, ej⟩ := List.getElem_of_mem he
        have : i = j := by
          refine (List.getElem_inj (h₀ := by simpa using hi) (h₁ := by simpa using hj) h2).mp ?_
          rw [List.getElem_map, List.getElem_map, ei, ej]; exact ce
        subst this
        rw [← ei, ← ej]
      rw [ee]
      refine ⟨po, to, ?_, by rw [old (by rw [q2]; exact z0)]; exact q2, q3, u5.mono (fun a ha => ?_), q5.move a1 (fun a ha => ?_) fc (fun w => w)⟩
      · rw [u6 e.1 (sd q2).1 (fun w => hto.2 w.symm)]; exact q1
      · rcases ha with w | w
        · rw [tgN_old (sd w.1).1]; exact w
        · rw [tgN_new (by omega), if_neg (by omega), if_pos ⟨w.1, w.2.1⟩, if_pos w.2.2]
          exact ⟨rfl, by have := (sd q2).1; omega⟩
      · exact ⟨by rw [old (by rw [ha]; exact poz)]; exact ha, fr a (by rw [ha]; exact poz) (by rw [ha]; exact pod)⟩
    · refine (h1 e' he').1.move (T := fun t => t = e.1) a1 (fun a w1 w2 => ⟨old w1, fr a w1 w2⟩) ce ?_ fc (fun q w => w)
      rintro q fs w hq
      rw [w, q1] at hq; cases hq
  · refine ⟨po, nx + 4, u3, by rw [tgN_new (Nat.le_refl _), if_pos (Or.inl rfl)], a2, u4.mono (fun a ha => ?_), q5.move a1 (fun a ha => ?_) fc (fun w => w)⟩
    · rcases ha with w | w
      · rw [w, tgN_new (by omega), if_pos (Or.inr rfl)]
        exact ⟨rfl, by omega⟩
      · rw [tgN_new (by omega), if_neg (by omega), if_pos ⟨w.1, w.2.1⟩, if_neg w.2.2]
        exact ⟨rfl, by omega⟩
    · exact ⟨by rw [old (by rw [ha]; exact poz)]; exact ha, fr a (by rw [ha]; exact poz) (by rw [ha]; exact pod)⟩
end X

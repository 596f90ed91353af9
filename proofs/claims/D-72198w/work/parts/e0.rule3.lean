/-! PURE 97: Reader.rule, whole -/
section X
variable {V : HEn} {ro so sd po it on : Nat} {l : List Nat}
theorem rule_f {G : Gh} {nx : Nat} {p : Pn} {t : Tk} (hV : 1200 ≤ V.2.2.2.2) (h : RdF V G nx ro so sd po it on l t) (hP : RPl V G nx sd po p) (hok : RsOk p.1) : wH (hF_X4_rule V G nx ro) (RuQ V G nx ro so sd po it on l p t) := by
  obtain ⟨wo, h1⟩ := h.cell
  obtain ⟨-, g1, g2, g3, g4, g5, g6, -⟩ := id h
  obtain ⟨lo, ld, ad, ch, f, p1, p2, p3, p4, p5, p6, p7, p8, p9, p10, p11, p12⟩ := id hP
  obtain ⟨a1, a2, a3, a4, a5⟩ := id p2
  have hpo : V.1 ≤ po := by omega
  unfold hF_X4_rule
  refine w_xR h1 rfl rfl (w_some (w_xR p1 rfl rfl (w_some (w_pos (by obtain ⟨ml, nn, ff, z, -⟩ := a1; exact gC_at z) (w_call0 (al_size a1) ?_)))))
  rw [List.length_map, a2]
  by_cases c3 : p.1.length = 3
  · -- three rules are there
    have ep : pRule l p.1 t = .inl t.1 := by unfold pRule; rw [if_pos c3]
    refine w_pos (by rw [c3]; exact Int32.le_refl _) ?_
    unfold hB_X4_rule_22
    refine w_some (w_pos (gC_at h1) (xw (wants_no h1 (by omega) (by omega)) ?_ ?_))
    · rintro r G1 c s ⟨q1, -⟩
      cases q1
    · rintro q G1 c s ⟨q1, q2, q3, q4, q5⟩
      cases q1
      refine ⟨by omega, by omega, fun b hb => q5 b (by omega), ?_⟩
      rw [ep]
      exact ⟨nx, rfl, Nat.le_refl _, by omega, q4⟩
  have hl3 : p.1.length < 3 := by omega
  refine w_neg (nI_ge (b := 3) hl3 (by omega)) ?_
  unfold hB_X4_rule_22
  refine w_some (w_pos (gC_at h1) (w_callE (wants_yes (by decide)) (w_pos (gC_at h1) ?_)))
  refine xw (next_f hV h) ?_ ?_
  case refine_2 =>
    rintro q G1 c s ⟨q1, q2, q3, q4⟩
    rcases q4 with ⟨-, c2, -⟩ | ⟨c1, c2⟩
    · cases c2
    · have ep : pRule l p.1 t = .inl (lexT l t.2.2.2).1 := by unfold pRule; rw [if_neg c3]; simp only; rw [if_pos (nuI_wrong c1)]
      refine ⟨by omega, by omega, fun b hb => q3 b (by omega) (by omega) (by omega), ?_⟩
      rw [ep]
      exact c2.of (by omega) (by omega)
  rintro r G1 c1 s1 ⟨q1, q2, q3, q4⟩
  have kk1 : ∀ b, b < ro → G1 b = G b := fun b hb => q3 b (by omega) (by omega) (by omega)
  rcases q4 with ⟨-, -, hF1⟩ | ⟨-, q, c2, -⟩
  case inr => cases c2
  generalize ht1 : lexT l t.2.2.2 = t1 at *
  obtain ⟨wo1, k1⟩ := hF1.cell
  refine w_pos (gC_at k1) (xw (takes_f (lo := 1) (hi := 4) hV hF1 (by omega) (by omega)) ?_ ?_)
  case refine_2 =>
    rintro q G2 c s ⟨u1, u2, u3, u4⟩
    have kk2 : ∀ b, b < ro → G2 b = G b := fun b hb => by rw [u3 b (by omega) (by omega) (by omega)]; exact kk1 b hb
    refine ⟨by omega, by omega, kk2, ?_⟩
    rcases u4 with ⟨-, -, v3, -⟩ | ⟨v1, v2, v3⟩ | ⟨v1, v3⟩
    · cases v3
    · have ep : pRule l p.1 t = .inl (lexT l t1.2.2.2).1 := by
        unfold pRule; rw [if_neg c3, ht1]; simp only; rw [v1, nuI_wrong v2]; rfl
      rw [ep]
      exact v3.of (by omega) (by omega)
    · have ep : pRule l p.1 t = .inl t1.1 := by
        unfold pRule; rw [if_neg c3, ht1]; simp only; rw [v1]; rfl
      rw [ep]
      exact v3.of (by omega) (by omega)
  rintro r G2 c2 s2 ⟨u1, u2, u3, u4⟩
  have kk2 : ∀ b, b < ro → G2 b = G b := fun b hb => by rw [u3 b (by omega) (by omega) (by omega)]; exact kk1 b hb
  rcases u4 with ⟨v1, v2, v3, hF2⟩ | ⟨-, -, q, v5, -⟩ | ⟨-, q, v5, -⟩
  case inr.inl => cases v5
  case inr.inr => cases v5
  cases v3
  have hv1 := of_decide_eq_true v1
  generalize ht2 : lexT l t1.2.2.2 = t2 at *
  obtain ⟨wo2, k2⟩ := hF2.cell
  refine w_xI k2 rfl rfl (w_call0 (isIn_tk (lo := t1.2.2.1) (hi := 4) hF2 (by omega) (by omega)) ?_)
  have hP2 : RPl V G2 (nx + c1 + c2) sd po p := (hP.keep (G' := G1) (nx' := nx + c1) (by omega) (fun b b1 b2 => q3 b b1 (by omega) (by omega)) (by omega)).keep (by omega) (fun b b1 b2 => u3 b b1 (by omega) (by omega)) (by omega)
  -- the second number is wrong
  have bad : ∀ (G3 : Gh) (nx3 cc ss : Nat), RdF V G3 nx3 ro so sd po it on l t2 → (nuI t2 t1.2.2.1 4 && decide (bks p.1 + t2.2.2.1 - 1 ≤ 6)) = false → nx3 = nx + cc → cc ≤ 8 → ss ≤ 300 → (∀ b, b < ro → G3 b = G b) → wH (hB_X4_rule_72 V ro G3 nx3 (some ro) (nI t1.2.2.1)) (fun r G' c s => RuQ V G nx ro so sd po it on l p t r G' (cc + c) (ss + s)) := by
    intro G3 nx3 cc ss hF3 hw hn hcc hss kk3
    obtain ⟨wo3, k3⟩ := hF3.cell
    obtain ⟨-, -, -, -, -, g5', -⟩ := id hF3
    have ep : pRule l p.1 t = .inl t2.1 := by
      unfold pRule; rw [if_neg c3, ht1]; simp only; rw [v1, ht2, hw]; rfl
    unfold hB_X4_rule_72 hB_X4_rule_73
    refine w_some (w_pos (gC_at k3) (xw (wants_no k3 (by omega) (by omega)) ?_ ?_))
    · rintro r G4 c s ⟨q1, -⟩
      cases q1
    · rintro q G4 c s ⟨z1, z2, z3, z4, z5⟩
      cases z1
      refine ⟨by omega, by omega, fun b hb => by rw [z5 b (by omega)]; exact kk3 b hb, ?_⟩
      rw [ep]
      exact ⟨nx3, rfl, by omega, by omega, z4⟩
  cases e2 : nuI t2 t1.2.2.1 4 with
  | false =>
    refine w_pos rfl (w_mono (bad G2 (nx + 0 + c1 + c2 + 0) (c1 + c2) (s1 + s2) (by rw [show nx + 0 + c1 + c2 + 0 = nx + c1 + c2 by omega]; exact hF2) (by rw [e2]; rfl) (by omega) (by omega) (by omega) kk2) ?_)
    intro r G' c s hq
    rw [show 0 + (c1 + (c2 + c)) = c1 + c2 + c by omega, show 0 + (s1 + (s2 + s)) = s1 + s2 + s by omega]
    exact hq
  | true =>
    have hv2 := of_decide_eq_true e2
    obtain ⟨lo2, ld2, ad2, ch2, f2, r1, r2, r3, r4, r5, r6, r7, r8, r9, r10, r11, r12⟩ := id hP2
    refine w_neg (by decide) (w_xR k2 rfl rfl (w_some (w_pos (gC_at r1) ?_)))
    refine w_call (bks_at (by omega) r1 r2 ⟨by omega, by rcases r9 with w | w <;> omega, fun a ha => by have := r10 a ha; omega⟩ (by omega)) ?_
    rintro y G3 c3' s3 ⟨rfl, rfl, rfl, w4⟩
    have kw : ∀ b, b < nx + c1 + c2 → G3 b = G2 b := fun b hb => w4 b (by omega)
    have hF3 : RdF V G3 (nx + c1 + c2 + 1) ro so sd po it on l t2 := hF2.low (by omega) kw
    have hP3 : RPl V G3 (nx + c1 + c2 + 1) sd po p := hP2.keep (by omega) (fun b b1 _ => kw b b1) (by omega)
    obtain ⟨wo3, k3⟩ := hF3.cell
    have kk3 : ∀ b, b < ro → G3 b = G b := fun b hb => by rw [kw b (by omega)]; exact kk2 b hb
    have en : tkN t2 = nI t2.2.2.1 := by unfold tkN; rw [if_pos hv2.1]
    have hbk := a4
    refine w_xI k3 rfl rfl ?_
    rw [en, nI_add]
    have e6 : nI (bks p.1 + t2.2.2.1) - 1 = nI (bks p.1 + t2.2.2.1 - 1) := by
      rw [show bks p.1 + t2.2.2.1 = (bks p.1 + t2.2.2.1 - 1) + 1 by omega, nI_pred]
      rfl
    rw [e6]
    by_cases c6 : 6 < bks p.1 + t2.2.2.1 - 1
    · refine w_pos (nI_lt (a := 6) c6 (by omega)) (w_mono (bad G3 (nx + 0 + c1 + c2 + 0 + 1) (c1 + c2 + 1) (s1 + s2 + 4) (by rw [show nx + 0 + c1 + c2 + 0 + 1 = nx + c1 + c2 + 1 by omega]; exact hF3) (by rw [e2, decide_eq_false (by omega)]; rfl) (by omega) (by omega) (by omega) kk3) ?_)
      intro r G' c s hq
      rw [show 0 + (c1 + (c2 + (1 + c))) = c1 + c2 + 1 + c by omega, show 0 + (s1 + (s2 + (4 + s))) = s1 + s2 + 4 + s by omega]
      exact hq
    · refine w_neg (nI_nlt (a := 6) (by omega) (by omega)) ?_
      have pre : ∀ x, pRule l p.1 t = x ↔ (if nuI (lexT l t2.2.2.2) 1 31 = false then .inl (lexT l t2.2.2.2).1 else .inr (p.1 ++ [(t1.2.2.1, t2.2.2.1, (lexT l t2.2.2.2).2.2.1)], lexT l t2.2.2.2)) = x := fun x => by
        unfold pRule; rw [if_neg c3, ht1]; simp only; rw [v1, ht2, e2, decide_eq_true (show bks p.1 + t2.2.2.1 - 1 ≤ 6 by omega)]
        rfl
      refine rule_3 (m := t1.2.2.1) (n0 := 0) (c0 := 0) (s0 := 0) (G := G3) (nx := nx + c1 + c2 + 1) (p := p) (t2 := t2) hV hF3 hP3 hok ⟨hv1.2.1, hv1.2.2⟩ e2 (by omega) hl3 (by omega) ?_ ?_ ?_
      · intro q G' c s z1 z2 z3 z4 z5
        refine ⟨by omega, by omega, fun b hb => by rw [z4 b hb]; exact kk3 b hb, ?_⟩
        rw [(pre _).mpr (by rw [if_pos z1])]
        exact z5.of (by omega) (by omega)
      · intro q G' c s z0 z1 z2 z3 z4 z5
        refine ⟨by omega, by omega, fun b hb => by rw [z4 b hb]; exact kk3 b hb, ?_⟩
        rw [(pre _).mpr (by rw [if_neg (by rw [z0]; decide)])]
        exact Or.inl ⟨z1, z5.of (by omega) (by omega)⟩
      · intro G' c s z0 z1 z2 z3 z4 z5 z6 z7 z8
        refine ⟨by omega, by omega, fun b hb => by rw [z4 b hb]; exact kk3 b hb, ?_⟩
        rw [(pre _).mpr (by rw [if_neg (by rw [z0]; decide)])]
        refine Or.inr ⟨z1, rfl, ?_, ?_, z7, (h.stk q3).trans (by omega) ((hF1.stk u3).trans (by omega) ((StK.low kw).trans (by omega) z8))⟩
        · rw [show nx + (0 + (c1 + (c2 + (1 + c)))) = nx + c1 + c2 + 1 + c by omega]; exact z5
        · rw [show nx + (0 + (c1 + (c2 + (1 + c)))) = nx + c1 + c2 + 1 + c by omega]; exact z6
end X

/-! PURE 96: Reader.rule -/
section X
variable {V : HEn} {ro so sd po it on : Nat} {l : List Nat}
/-- what rule leaves -/
def RuQ (V : HEn) (G : Gh) (nx ro so sd po it on : Nat) (l : List Nat) (p : Pn) (t : Tk) : Unit ⊕ Nat → Gh → Nat → Nat → Prop := fun r G' c s => c ≤ 20 ∧ s ≤ 800 ∧ (∀ b, b < ro → G' b = G b) ∧ (match pRule l p.1 t with
  | .inl b => FtQ nx b (rgt r) G' c
  | .inr (rs', t3) => ((lexT l t3.2.2.2).2.1 = 6 ∧ FtQ nx (lexT l t3.2.2.2).1 (rgt r) G' c) ∨ ((lexT l t3.2.2.2).2.1 ≠ 6 ∧ r = .inl () ∧ RdF V G' (nx + c) ro so sd po it on l (lexT l t3.2.2.2) ∧ RPl V G' (nx + c) sd po (rs', p.2) ∧ RsOk rs' ∧ StK V G G' nx so))
theorem FtQ.of {nx n0 b c c' : Nat} {r : Option Nat} {G : Gh} (h : FtQ nx b r G c) (h1 : n0 ≤ nx) (h2 : nx + c ≤ n0 + c') : FtQ n0 b r G c' := by
  obtain ⟨q, q1, q2, q3, q4⟩ := h
  exact ⟨q, q1, by omega, by omega, q4⟩
theorem xw {α β : Type} {x : HO (α ⊕ Nat)} {f : α → Gh → Nat → HO (β ⊕ Nat)} {Q : β ⊕ Nat → Gh → Nat → Nat → Prop} {Q' : α ⊕ Nat → Gh → Nat → Nat → Prop} (h : wH x Q') (k : ∀ r G c s, Q' (.inl r) G c s → wH (f r G c) (fun r' G' c' s' => Q r' G' (c + c') (s + s'))) (kx : ∀ q G c s, Q' (.inr q) G c s → Q (.inr q) G c s) : wH (xB x f) Q := w_xB h k kx
/-- the rest of rule: the third number -/
theorem rule_3 {G : Gh} {nx : Nat} {p : Pn} {t2 : Tk} {m : Nat} {n0 c0 s0 : Nat} {Q : Unit ⊕ Nat → Gh → Nat → Nat → Prop} (hV : 1200 ≤ V.2.2.2.2) (h : RdF V G nx ro so sd po it on l t2) (hP : RPl V G nx sd po p) (hok : RsOk p.1) (hm : 1 ≤ m ∧ m ≤ 4) (h2 : nuI t2 m 4 = true) (hbk : bks p.1 + t2.2.2.1 - 1 ≤ 6) (h3 : p.1.length < 3) (hpo : V.1 ≤ po)
    (K1 : ∀ q G' c s, nuI (lexT l t2.2.2.2) 1 31 = false → c ≤ 8 → s ≤ 450 → (∀ b, b < ro → G' b = G b) → FtQ nx (lexT l t2.2.2.2).1 (some q) G' c → Q (.inr q) G' c s)
    (K2 : ∀ q G' c s, nuI (lexT l t2.2.2.2) 1 31 = true → (lexT l (lexT l t2.2.2.2).2.2.2).2.1 = 6 → c ≤ 8 → s ≤ 450 → (∀ b, b < ro → G' b = G b) → FtQ nx (lexT l (lexT l t2.2.2.2).2.2.2).1 (some q) G' c → Q (.inr q) G' c s)
    (K3 : ∀ G' c s, nuI (lexT l t2.2.2.2) 1 31 = true → (lexT l (lexT l t2.2.2.2).2.2.2).2.1 ≠ 6 → c ≤ 8 → s ≤ 450 → (∀ b, b < ro → G' b = G b) → RdF V G' (nx + c) ro so sd po it on l (lexT l (lexT l t2.2.2.2).2.2.2) → RPl V G' (nx + c) sd po (p.1 ++ [(m, t2.2.2.1, (lexT l t2.2.2.2).2.2.1)], p.2) → RsOk (p.1 ++ [(m, t2.2.2.1, (lexT l t2.2.2.2).2.2.1)]) → StK V G G' nx so → Q (.inl ()) G' c s) :
    wH (hB_X4_rule_73 V ro G nx (some ro) 1 (nI m)) Q := by
  obtain ⟨wo, h1⟩ := h.cell
  obtain ⟨-, g1, g2, g3, g4, g5, g6, -⟩ := id h
  have hv2 := of_decide_eq_true h2
  unfold hB_X4_rule_73
  refine w_some (w_pos (gC_at h1) (w_callE (wants_yes (by decide)) (w_pos (gC_at h1) ?_)))
  refine xw (takes_f (lo := m) (hi := 4) hV h (by omega) (by omega)) ?_ ?_
  · rintro r G1 c1 s1 ⟨q1, q2, q3, q4⟩
    rcases q4 with ⟨-, c2, c3, c4⟩ | ⟨-, -, q, c5, -⟩ | ⟨c2, -⟩
    · cases c3
      generalize ht3 : lexT l t2.2.2.2 = t3 at *
      obtain ⟨wo1, k1⟩ := c4.cell
      have hP1 : RPl V G1 (nx + c1) sd po p := hP.keep (by omega) (fun b b1 b2 => q3 b b1 (by omega) (by omega)) (by omega)
      obtain ⟨lo, ld, ad, ch, f, p1, p2, p3, p4, p5, p6, p7, p8, p9, p10, p11, p12⟩ := id hP1
      refine w_xR k1 rfl rfl (w_some (w_xR p1 rfl rfl (w_tick ?_)))
      generalize hN : nx + 0 + c1 = N
      have hN' : N = nx + c1 := by omega
      rw [← hN'] at *
      have hF2 : RdF V (gset G1 N (.inr (5, [.int 0, .int 0, .int 0]))) (N + 1) ro so sd po it on l t3 := c4.low (by omega) (fun b hb => gset_ne _ _ (by omega))
      obtain ⟨wo2, k2⟩ := hF2.cell
      refine w_pos (gC_at k2) (xw (takes_f (lo := 1) (hi := 31) hV hF2 (by omega) (by omega)) ?_ ?_)
      · rintro r G3 c3 s3 ⟨u1, u2, u3, u4⟩
        rcases u4 with ⟨v1, v2, v3, v4⟩ | ⟨-, -, q, v5, -⟩ | ⟨-, q, v5, -⟩
        · cases v3
          have hv3 := of_decide_eq_true v1
          have kN : G3 N = some (.inr (5, [.int 0, .int 0, .int 0])) := by rw [u3 N (by omega) (by omega) (by omega)]; exact gset_eq _ _ _
          unfold hF_X6_init
          refine w_cB (w_xF (fs' := [.int (nI m), .int 0, .int 0]) kN rfl (Nat.le_of_ble_eq_true rfl) (by omega) rfl (w_xF (fs' := [.int (nI m), .int (nI t2.2.2.1), .int 0]) (gset_eq _ _ _) rfl (Nat.le_of_ble_eq_true rfl) (by omega) rfl (w_xF (fs' := [.int (nI m), .int (nI t2.2.2.1), .int (nI t3.2.2.1)]) (gset_eq _ _ _) rfl (Nat.le_of_ble_eq_true rfl) (by omega) rfl (w_ret (w_some ?_)))))
          generalize hG4 : gset (gset (gset G3 N _) N _) N _ = G4
          have k4 : ∀ b, b ≠ N → G4 b = G3 b := fun b hb => by rw [← hG4, gset_ne _ _ hb, gset_ne _ _ hb, gset_ne _ _ hb]
          have hU : RuAt G4 N (m, t2.2.2.1, t3.2.2.1) := ⟨by rw [← hG4]; exact gset_eq _ _ _, hm.1, hv2.2.1, hv2.2.2, hv3.2.1, hv3.2.2⟩
          clear hG4
          have hF4 : RdF V G4 (N + 1 + c3) ro so sd po it on l (lexT l t3.2.2.2) := v4.upd (X := fun x => x = N) (Nat.le_refl _) (fun x hx => by omega) (fun x hx wo wd hs => by rw [hx]; exact hs.ne_obj kN (by decide)) (fun b _ hb => k4 b hb)
          have kP : ∀ b, b < nx + c1 → (b < V.1 ∨ sd < b) → G4 b = G1 b := fun b b1 b2 => by rw [k4 b (by omega), u3 b (by omega) (by omega) (by omega), gset_ne _ _ (by omega)]
          have hR4 : RL V G4 lo ld ad p.1 := p2.keep (kP lo p8 (Or.inr p7)) (by rcases p9 with w | w; exact kP ld (by omega) (Or.inl w); exact kP ld w.2 (Or.inr w.1)) (fun a ha => kP a (p10 a ha).2 (Or.inr (p10 a ha).1))
          obtain ⟨a1, a2, a3, a4, a5⟩ := id hR4
          refine w_pos (by obtain ⟨ml, nn, ff, z, -⟩ := a1; exact gC_at z) ?_
          refine w_call (al_add (x := some N) a1 (by simp; omega) ⟨by omega, by rcases p9 with w | w <;> omega⟩ (by omega) trivial (fun y hy => ?_) (gokA_at hU.1 (by simp [okL]) (by decide)) (fun y hy a ha => ?_)) ?_
          · obtain ⟨a, ha, rfl⟩ := List.mem_map.mp hy
            obtain ⟨i, hi, e⟩ := List.getElem_of_mem ha
            have := (a5 i hi (by omega)).1
            rw [e] at this
            exact gokA_at this (by simp [okL]) (by decide)
          · rcases hy with w | w
            · obtain ⟨a', ha', rfl⟩ := List.mem_map.mp w
              cases ha
              have hlt := p10 a ha'
              obtain ⟨i, hi, e⟩ := List.getElem_of_mem ha'
              have hc := (a5 i hi (by omega)).1
              rw [e] at hc
              obtain ⟨ml, nn, ff, z1, z2, -⟩ := a1
              exact ⟨by omega, hd_ne hc z1 (by decide), hd_na hc z2⟩
            · rw [w] at ha
              cases ha
              exact ⟨by omega, by omega, by rcases p9 with w | w <;> omega⟩
          rintro - G5 c5 s5 ⟨-, y2, y3, ⟨ld5, y4, y5⟩, y6⟩
          obtain ⟨ml, nn, ff, z1, z2, z3⟩ := id a1
          have hF5 : RdF V G5 (N + 1 + c3 + c5) ro so sd po it on l (lexT l t3.2.2.2) := hF4.upd (X := fun x => x = lo ∨ (x = ld ∧ V.1 ≤ ld)) (by omega) (fun x hx => by rcases hx with w | w; omega; rcases p9 with z | z <;> omega) (fun x hx wo wd hs => by
            rcases hx with w | w
            · rw [w]; exact hs.ne_obj z1 (by decide)
            · rw [w.1]; exact hs.ne_row z2 (Or.inr ⟨_, rfl⟩)) (fun b b1 hb => y6 b (fun e => hb (Or.inl e)) (by
              by_cases cb : b = ld
              · by_cases cv : V.1 ≤ ld
                · exact absurd (Or.inr ⟨cb, cv⟩) hb
                · exact Or.inr (by omega)
              · exact Or.inl cb) (by omega))
          have kL : ∀ b, b < N + 1 + c3 → b ≠ lo → (b ≠ ld ∨ b < V.1) → G5 b = G4 b := fun b b1 b2 b3 => y6 b b2 b3 (by omega)
          have hmap : (ad ++ [N]).map some = ad.map some ++ [some N] := by simp
          have ldne : ∀ a, a ∈ ad → a ≠ lo ∧ a ≠ ld := fun a ha => by
            obtain ⟨i, hi, e⟩ := List.getElem_of_mem ha
            have hc := (a5 i hi (by omega)).1
            rw [e] at hc
            exact ⟨hd_ne hc z1 (by decide), hd_na hc z2⟩
          have hbks : ∀ rs : List Ru, bks (rs ++ [(m, t2.2.2.1, t3.2.2.1)]) = bks rs + (t2.2.2.1 - 1) := fun rs => by
            induction rs with
            | nil => simp [bks]
            | cons a t ih => simp only [List.cons_append, bks, ih]; omega
          have hrs : RsOk (p.1 ++ [(m, t2.2.2.1, t3.2.2.1)]) := ⟨fun r hr => by
            rcases List.mem_append.mp hr with w | w
            · exact hok.1 r w
            · rw [List.mem_singleton.mp w]; exact hU.2, by simp; omega, by rw [hbks]; omega⟩
          refine w_ret (K3 G5 _ _ v1 v2 (by omega) (by omega) (fun b hb => ?_) (by rw [show nx + (0 + (c1 + (1 + (c3 + (0 + (c5 + 0)))))) = N + 1 + c3 + c5 by omega]; exact hF5) ?_ hrs ?_)
          · rw [y6 b (by omega) (by by_cases cb : b = ld; exact Or.inr (by omega); exact Or.inl cb) (by omega), k4 b (by omega), u3 b (by omega) (by omega) (by omega), gset_ne _ _ (by omega)]
            exact q3 b (by omega) (by omega) (by omega)
          · rw [show nx + (0 + (c1 + (1 + (c3 + (0 + (c5 + 0)))))) = N + 1 + c3 + c5 by omega]
            have pne : po ≠ lo ∧ (po ≠ ld ∨ po < V.1) := ⟨hd_ne (show G4 po = _ from by rw [kP po p6 (Or.inr p5)]; exact p1) z1 (by decide), Or.inl (hd_na (show G4 po = _ from by rw [kP po p6 (Or.inr p5)]; exact p1) z2)⟩
            have cne : ch ≠ lo ∧ (ch ≠ ld ∨ ch < V.1) := by
              have hch : G4 ch = some (.inl (V.2.1 0, 5, .inl f)) := by rw [kP ch p12 (Or.inr p11)]; exact p3
              refine ⟨fun e => ?_, Or.inl (fun e => ?_)⟩
              · rw [e, z1] at hch; cases hch
              · rw [e, z2] at hch
                simp only [Option.some.injEq, Sum.inl.injEq, Prod.mk.injEq] at hch
                cases hch.2.2
            refine ⟨lo, ld5, ad ++ [N], ch, f, ?_, ⟨by rw [hmap]; exact y4, by simp [a2], by simp; omega, hrs.2.2, fun j hj hj' => ?_⟩, ?_, p4, p5, by omega, p7, by omega, ?_, fun a ha => ?_, p11, by omega⟩
            · rw [kL po (by omega) pne.1 pne.2, kP po p6 (Or.inr p5)]; exact p1
            · by_cases cj : j < ad.length
              · simp only [List.getElem_append_left cj, List.getElem_append_left (show j < p.1.length by omega)]
                have hm := List.getElem_mem cj
                exact ⟨by rw [kL _ (by have := p10 _ hm; omega) (ldne _ hm).1 (Or.inl (ldne _ hm).2)]; exact (a5 j cj (by omega)).1, (a5 j cj (by omega)).2⟩
              · have ej : j = ad.length := by simp at hj; omega
                subst ej
                simp only [a2, List.getElem_concat_length]
                exact ⟨by rw [kL N (by omega) (by omega) (Or.inl (by rcases p9 with w | w <;> omega))]; exact hU.1, hU.2⟩
            · rw [kL ch (by omega) cne.1 cne.2, kP ch p12 (Or.inr p11)]; exact p3
            · rcases y5 with w | w
              · rw [w.1]; rcases p9 with z | z
                · exact Or.inl z
                · exact Or.inr (by omega)
              · exact Or.inr (by omega)
            · rcases List.mem_append.mp ha with w | w
              · have := p10 a w; omega
              · rw [List.mem_singleton.mp w]; omega
          · refine ((h.stk q3).trans (show nx ≤ N by omega) ((StK.low (fun b hb => gset_ne _ _ (by omega))).trans (show N ≤ N + 1 by omega) ((hF2.stk u3).trans (show N + 1 ≤ N + 1 by omega) (fun xo xd w st s a b c _ => ?_))))
            by_cases cN : xo = N ∨ xd = N
            · exact absurd cN (by have := s.ne_obj kN (by decide); omega)
            have s4 : Str V G4 xo xd w st := s.keep (k4 xo (by omega)) (k4 xd (by omega))
            have e1 := s4.ne_obj z1 (by decide)
            have e2 := s4.ne_row z2 (Or.inr ⟨_, rfl⟩)
            exact s4.keep (kL xo (by omega) e1.1.symm (Or.inl e2.1.symm)) (kL xd (by omega) e1.2.symm (Or.inl e2.2.symm))
        · cases v5
        · cases v5
      · rintro q G3 c3 s3 ⟨u1, u2, u3, u4⟩
        have kk : ∀ b, b < ro → G3 b = G b := fun b hb => by rw [u3 b (by omega) (by omega) (by omega), gset_ne _ _ (by omega)]; exact q3 b (by omega) (by omega) (by omega)
        rcases u4 with ⟨-, -, v3, -⟩ | ⟨v1, v2, v3⟩ | ⟨v1, v3⟩
        · cases v3
        · exact K2 q G3 _ _ v1 v2 (by omega) (by omega) kk (v3.of (by omega) (by omega))
        · exact K1 q G3 _ _ v1 (by omega) (by omega) kk (v3.of (by omega) (by omega))
    · cases c5
    · rw [h2] at c2; cases c2
  · rintro q G1 c1 s1 ⟨q1, q2, q3, q4⟩
    have kk : ∀ b, b < ro → G1 b = G b := fun b hb => q3 b (by omega) (by omega) (by omega)
    rcases q4 with ⟨-, -, c3, -⟩ | ⟨-, c2, c3⟩ | ⟨c2, -⟩
    · cases c3
    · exact K1 q G1 _ _ (nuI_wrong c2) (by omega) (by omega) kk (c3.of (by omega) (by omega))
    · rw [h2] at c2; cases c2
end X

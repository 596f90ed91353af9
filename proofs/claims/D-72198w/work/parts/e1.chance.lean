/-! PURE 98: Reader.chance -/
/-- n numbers are still to come after t -/
def pCh (l : List Nat) : Nat → List Nat → Tk → Nat ⊕ (List Nat × Tk)
  | 0, acc, t => .inr (acc, t)
  | n + 1, acc, t => if (nuI (lexT l t.2.2.2) 0 10 && (decide (n ≠ 0) || decide (acc.sum + (lexT l t.2.2.2).2.2.1 = 10))) = false then .inl (lexT l t.2.2.2).1 else pCh l n (acc ++ [(lexT l t.2.2.2).2.2.1]) (lexT l t.2.2.2)
section X
variable {V : HEn} {ro so sd po it on : Nat} {l : List Nat}
/-- what an item's reading leaves; R the fault, or the plan and the last token -/
def ItQ (V : HEn) (G : Gh) (nx ro so sd po it on : Nat) (l : List Nat) (m : Nat) (R : Nat ⊕ (Pn × Tk)) : Unit ⊕ Nat → Gh → Nat → Nat → Prop := fun r G' c s => c ≤ m ∧ s ≤ 50 * m ∧ (∀ b, b < ro → G' b = G b) ∧ (match R with
  | .inl b => FtQ nx b (rgt r) G' c
  | .inr (p', t3) => ((lexT l t3.2.2.2).2.1 = 6 ∧ FtQ nx (lexT l t3.2.2.2).1 (rgt r) G' c) ∨ ((lexT l t3.2.2.2).2.1 ≠ 6 ∧ r = .inl () ∧ RdF V G' (nx + c) ro so sd po it on l (lexT l t3.2.2.2) ∧ RPl V G' (nx + c) sd po p' ∧ StK V G G' nx so))
def mpC (p : Pn) (R : Nat ⊕ (List Nat × Tk)) : Nat ⊕ (Pn × Tk) := match R with
  | .inl b => .inl b
  | .inr (cs, t) => .inr ((p.1, cs, p.2.2), t)
theorem lef {s v : Nat} : Int32.ofInt (10 - (s : Int)) - nI v = Int32.ofInt (10 - ((s + v : Nat) : Int)) := by
  rw [show nI v = Int32.ofInt (v : Int) from rfl, ← Int32.ofInt_sub]
  congr 1
  omega
theorem leq {s v : Nat} (hs : s ≤ 100) (hv : v ≤ 100) : (nI v = Int32.ofInt (10 - (s : Int))) ↔ s + v = 10 := by
  constructor
  · intro h
    have := congrArg Int32.toInt h
    rw [nI_toInt (by omega), Int32.toInt_ofInt_of_le (by omega) (by omega)] at this
    omega
  · intro h
    rw [show nI v = Int32.ofInt (v : Int) from rfl]
    congr 1
    omega
theorem chance_l {p : Pn} {na : Nat} (hV : 1200 ≤ V.2.2.2.2) (hsn : sd < na) : ∀ (n fu : Nat) (G : Gh) (nx : Nat) (acc : List Nat) (t : Tk) (f : Nat → Int32), n + acc.length = 5 → n < fu → acc.sum ≤ 10 * acc.length → RdF V G nx ro so sd po it on l (lexT l t.2.2.2) → RPl V G na sd po p → na < nx → G na = some (.inl (V.2.1 0, 5, .inl f)) → (∀ i, i < acc.length → f i = nI (acc.getD i 0)) → wH (hL_X4_chance_13 V ro fu G nx (Int32.ofInt (10 - (acc.sum : Int))) (some na) (nI acc.length)) (ItQ V G nx ro so sd po it on l (3 * n) (mpC p (pCh l n acc t))) := by
  intro n
  induction n with
  | zero =>
    intro fu G nx acc t f hn hf hsum hF hP hna hG hfv
    obtain ⟨fu, rfl⟩ : ∃ k, fu = k + 1 := ⟨fu - 1, by omega⟩
    have h5 : acc.length = 5 := by omega
    obtain ⟨wo, h1⟩ := hF.cell
    obtain ⟨-, g1, g2, g3, g4, g5, g6, g7, g8, g9, g10⟩ := id hF
    obtain ⟨lo, ld, ad, ch, f0, p1, p2, p3, p4, p5, p6, p7, p8, p9, p10, p11, p12⟩ := id hP
    unfold hL_X4_chance_13
    refine w_pos (by rw [h5]; exact Int32.le_refl _) (w_xR h1 rfl rfl (w_some (w_xF (fs' := _) p1 rfl (Nat.le_of_ble_eq_true rfl) (by omega) rfl (w_ret ?_))))
    have kk : ∀ b, b ≠ po → ∀ y, (gset G po y) b = G b := fun b hb y => gset_ne _ _ hb
    refine ⟨by omega, by omega, fun b hb => kk b (by omega) _, ?_⟩
    show _ ∨ _
    obtain ⟨a1, a2, a3, a4, a5⟩ := id p2
    obtain ⟨ml, nn, ff, z1, z2, -⟩ := id a1
    refine Or.inr ⟨g10, rfl, hF.upd (X := fun x => x = po) (Nat.le_add_right _ _) (fun x hx => by omega) (fun x hx wo wd hs => by rw [hx]; exact hs.ne_obj p1 (by decide)) (fun b _ hb => kk b hb _), ⟨lo, ld, ad, na, f, gset_eq _ _ _, p2.keep (kk lo (hd_ne p1 z1 (by decide)).symm _) (kk ld (hd_na p1 z2).symm _) (fun a ha => kk a (fun e => ?_) _), (kk na (by omega) _).trans hG, fun i hi => hfv i (by omega), p5, by omega, p7, by omega, by rcases p9 with w | w; exact Or.inl w; exact Or.inr (by omega), fun a ha => by have := p10 a ha; omega, hsn, by omega⟩, fun xo xd w st s a b c _ => ?_⟩
    · obtain ⟨i, hi, e'⟩ := List.getElem_of_mem ha
      have hc := (a5 i hi (by omega)).1
      rw [e', e, p1] at hc
      cases hc
    · have e1 := s.ne_obj p1 (by decide)
      exact s.keep (kk xo e1.1.symm _) (kk xd e1.2.symm _)
  | succ n ih =>
    intro fu G nx acc t f hn hf hsum hF hP hna hG hfv
    obtain ⟨fu, rfl⟩ : ∃ k, fu = k + 1 := ⟨fu - 1, by omega⟩
    obtain ⟨wo, h1⟩ := hF.cell
    obtain ⟨-, g1, g2, g3, g4, g5, g6, g7, g8, g9, g10⟩ := id hF
    generalize ht : lexT l t.2.2.2 = t1 at *
    have eP : pCh l (n + 1) acc t = if (nuI t1 0 10 && (decide (n ≠ 0) || decide (acc.sum + t1.2.2.1 = 10))) = false then .inl t1.1 else pCh l n (acc ++ [t1.2.2.1]) t1 := by rw [← ht]; rfl
    have hpo : po < na := by obtain ⟨lo, ld, ad, ch, f0, p1, p2, p3, p4, p5, p6, -⟩ := hP; exact p6
    -- the number is taken
    have good : (decide (n ≠ 0) || decide (acc.sum + t1.2.2.1 = 10)) = true ∨ nuI t1 0 10 = false → wH (hB_X4_chance_32 V ro (hL_X4_chance_13 V ro fu) G nx (some ro) (Int32.ofInt (10 - (acc.sum : Int))) (some na) (nI acc.length)) (ItQ V G nx ro so sd po it on l (3 * (n + 1)) (mpC p (pCh l (n + 1) acc t))) := by
      intro hgd
      unfold hB_X4_chance_32 hB_X4_chance_37
      refine w_some (w_pos (gC_at h1) (w_callE (wants_yes (by decide)) (w_pos (gC_at h1) ?_)))
      refine xw (takes_f (lo := 0) (hi := 10) hV hF (by omega) (by omega)) ?_ ?_
      · rintro r G1 c1 s1 ⟨q1, q2, q3, q4⟩
        rcases q4 with ⟨c2, c3, c4, c5⟩ | ⟨-, -, q, c5, -⟩ | ⟨-, q, c5, -⟩
        · cases c4
          have hgd' : (decide (n ≠ 0) || decide (acc.sum + t1.2.2.1 = 10)) = true := by
            rcases hgd with w | w
            · exact w
            · rw [c2] at w; cases w
          rw [eP, if_neg (by rw [c2, hgd']; decide)]
          have hv := of_decide_eq_true c2
          have hG1 : G1 na = some (.inl (V.2.1 0, 5, .inl f)) := (q3 na hna (by omega) (by omega)).trans hG
          have hj : gd (nI acc.length) 5 = some acc.length := gd_nI (by omega) (by omega)
          refine w_some (w_wrI hG1 (by omega) hj (w_rdI (gset_eq _ _ _) hj ?_))
          rw [show upd f acc.length (nI t1.2.2.1) acc.length = nI t1.2.2.1 from if_pos rfl, lef]
          have hF2 : RdF V (gset G1 na (.inl (V.2.1 0, 5, .inl (upd f acc.length (nI t1.2.2.1))))) (nx + c1) ro so sd po it on l (lexT l t1.2.2.2) := c5.upd (X := fun x => x = na) (Nat.le_refl _) (fun x hx => by omega) (fun x hx wo wd hs => by rw [hx]; exact hs.ne_row hG1 (Or.inl (fun e => tkW_len _ e.symm))) (fun b _ hb => gset_ne _ _ hb)
          have hP2 : RPl V (gset G1 na (.inl (V.2.1 0, 5, .inl (upd f acc.length (nI t1.2.2.1))))) na sd po p := hP.keep (Nat.le_refl _) (fun b b1 b2 => by rw [gset_ne _ _ (by omega)]; exact q3 b (by omega) (by omega) (by omega)) (by omega)
          have := ih fu _ (nx + c1) (acc ++ [t1.2.2.1]) t1 (upd f acc.length (nI t1.2.2.1)) (by simp; omega) (by omega) (by simp; omega) hF2 hP2 (by omega) (gset_eq _ _ _) (fun i hi => ?_)
          · rw [show (acc ++ [t1.2.2.1]).sum = acc.sum + t1.2.2.1 by simp, show nI (acc ++ [t1.2.2.1]).length = nI acc.length + 1 by rw [List.length_append, List.length_singleton, nI_succ]] at this
            refine w_mono this ?_
            rintro r G' c s ⟨k1, k2, k3, k4⟩
            have stk : ∀ G'', StK V (gset G1 na (.inl (V.2.1 0, 5, .inl (upd f acc.length (nI t1.2.2.1))))) G'' (nx + c1) so → StK V G G'' nx so := fun G'' hk => (hF.stk q3).trans (Nat.le_add_right _ c1) (StK.trans (G1 := gset G1 na (.inl (V.2.1 0, 5, .inl (upd f acc.length (nI t1.2.2.1))))) (fun xo xd w st s a b cc dd => by have e := s.ne_row hG1 (Or.inl (Ne.symm dd)); exact s.keep (gset_ne _ _ e.1.symm) (gset_ne _ _ e.2.symm)) (Nat.le_refl (nx + c1)) hk)
            refine ⟨by omega, by omega, fun b hb => by rw [k3 b hb, gset_ne _ _ (by omega)]; exact q3 b (by omega) (by omega) (by omega), ?_⟩
            · cases eR : mpC p (pCh l n (acc ++ [t1.2.2.1]) t1) with
              | inl b => rw [eR] at k4; exact FtQ.of k4 (by omega) (by omega)
              | inr y =>
                obtain ⟨p', t3⟩ := y
                rw [eR] at k4
                rcases k4 with ⟨w1, w2⟩ | ⟨w1, w2, w3, w4, w5⟩
                · exact Or.inl ⟨w1, w2.of (by omega) (by omega)⟩
                · exact Or.inr ⟨w1, w2, by rw [show nx + (0 + (c1 + c)) = nx + c1 + c by omega]; exact w3, by rw [show nx + (0 + (c1 + c)) = nx + c1 + c by omega]; exact w4, stk _ w5⟩
          · by_cases ci : i = acc.length
            · rw [ci]; unfold upd; rw [if_pos rfl]; simp
            · unfold upd; have hi' : i < acc.length := by (simp at hi; omega)
              rw [if_neg ci, hfv i hi']; simp only [List.getD_eq_getElem?_getD, List.getElem?_append_left hi']
        · cases c5
        · cases c5
      · rintro q G1 c1 s1 ⟨q1, q2, q3, q4⟩
        refine ⟨by omega, by omega, fun b hb => q3 b (by omega) (by omega) (by omega), ?_⟩
        rcases q4 with ⟨-, -, v3, -⟩ | ⟨v1, v2, v3⟩ | ⟨v1, v3⟩
        · cases v3
        · have hgd' : (decide (n ≠ 0) || decide (acc.sum + t1.2.2.1 = 10)) = true := by
            rcases hgd with w | w
            · exact w
            · rw [v1] at w; cases w
          rw [eP, if_neg (by rw [v1, hgd']; decide)]
          cases n with
          | zero => exact Or.inl ⟨v2, v3.of (by omega) (by omega)⟩
          | succ n =>
            rw [show pCh l (n + 1) (acc ++ [t1.2.2.1]) t1 = .inl (lexT l t1.2.2.2).1 by unfold pCh; rw [nuI_wrong v2]; rfl]
            exact v3.of (by omega) (by omega)
        · rw [eP, if_pos (by rw [v1]; rfl)]
          exact v3.of (by omega) (by omega)
    unfold hL_X4_chance_13
    refine w_neg (nI_ge (b := 5) (by omega) (by omega)) ?_
    by_cases c4 : acc.length < 4
    · exact w_pos (nI_lt (b := 4) c4 (by omega)) (good (Or.inl (by rw [decide_eq_true (show n ≠ 0 by omega)]; rfl)))
    · refine w_neg (nI_nlt (b := 4) (by omega) (by omega)) (w_xI h1 rfl rfl ?_)
      by_cases cn : t1.2.1 = 1
      · rw [show tkN t1 = nI t1.2.2.1 by unfold tkN; rw [if_pos cn]]
        by_cases ce : acc.sum + t1.2.2.1 = 10
        · exact w_pos ((leq (by omega) (by omega)).mpr ce) (good (Or.inl (by rw [decide_eq_true ce]; simp)))
        · refine w_neg (fun e => ce ((leq (by omega) (by omega)).mp e)) ?_
          unfold hB_X4_chance_37
          refine w_some (w_pos (gC_at h1) (xw (wants_no h1 (by omega) (by omega)) ?_ ?_))
          · rintro r G4 c s ⟨q1, -⟩
            cases q1
          · rintro q G4 c s ⟨z1, z2, z3, z4, z5⟩
            cases z1
            refine ⟨by omega, by omega, fun b hb => z5 b (by omega), ?_⟩
            rw [eP, if_pos (by rw [decide_eq_false (show ¬ n ≠ 0 by omega), decide_eq_false ce]; simp)]
            exact ⟨nx, rfl, by omega, by omega, z4⟩
      · have nz : nuI t1 0 10 = false := decide_eq_false (fun z => cn z.1)
        refine w_if (fun _ => good (Or.inr nz)) (fun _ => ?_)
        unfold hB_X4_chance_37
        refine w_some (w_pos (gC_at h1) (xw (wants_no h1 (by omega) (by omega)) ?_ ?_))
        · rintro r G4 c s ⟨q1, -⟩
          cases q1
        · rintro q G4 c s ⟨z1, z2, z3, z4, z5⟩
          cases z1
          refine ⟨by omega, by omega, fun b hb => z5 b (by omega), ?_⟩
          rw [eP, if_pos (by rw [nz]; rfl)]
          exact ⟨nx, rfl, by omega, by omega, z4⟩
theorem chance_f {G : Gh} {nx : Nat} {p : Pn} {t : Tk} (hV : 1200 ≤ V.2.2.2.2) (h : RdF V G nx ro so sd po it on l t) (hP : RPl V G nx sd po p) : wH (hF_X4_chance V G nx ro) (ItQ V G nx ro so sd po it on l 20 (mpC p (pCh l 5 [] t))) := by
  obtain ⟨-, g1, g2, g3, g4, g5, g6, g7, g8, g9, g10⟩ := id h
  unfold hF_X4_chance
  refine w_bind (show gn 5 = some 5 from rfl) (w_tick ?_)
  generalize hG0 : gset G nx _ = G0
  have k0 : ∀ b, b < nx → G0 b = G b := fun b hb => by rw [← hG0]; exact gset_ne _ _ (by omega)
  have kn : G0 nx = some (.inl (V.2.1 0, 5, .inl (fun _ => 0))) := by rw [← hG0]; exact gset_eq _ _ _
  clear hG0
  have hF0 : RdF V G0 (nx + 1) ro so sd po it on l t := h.low (by omega) k0
  have hP0 : RPl V G0 nx sd po p := hP.keep (Nat.le_refl _) (fun b b1 _ => k0 b b1) (by omega)
  obtain ⟨wo, h1⟩ := hF0.cell
  refine w_pos (gC_at h1) (xw (next_f hV hF0) ?_ ?_)
  · rintro r G1 c1 s1 ⟨q1, q2, q3, q4⟩
    rcases q4 with ⟨-, -, hF1⟩ | ⟨-, q, c2, -⟩
    case inr => cases c2
    have hP1 : RPl V G1 nx sd po p := hP0.keep (Nat.le_refl _) (fun b b1 b2 => q3 b (by omega) (by omega) (by omega)) (by omega)
    have := chance_l (p := p) (na := nx) hV g5 5 V.2.2.2.2 G1 (nx + 1 + c1) [] t (fun _ => 0) rfl (by omega) (by simp) hF1 hP1 (by omega) (by rw [q3 nx (by omega) (by omega) (by omega)]; exact kn) (fun i hi => absurd hi (by simp))
    refine w_mono this ?_
    rintro r G' c s ⟨k1, k2, k3, k4⟩
    refine ⟨by omega, by omega, fun b hb => by rw [k3 b hb, q3 b (by omega) (by omega) (by omega)]; exact k0 b (by omega), ?_⟩
    cases eR : mpC p (pCh l 5 [] t) with
    | inl b => rw [eR] at k4; exact FtQ.of k4 (by omega) (by omega)
    | inr y =>
      obtain ⟨p', t3⟩ := y
      rw [eR] at k4
      rcases k4 with ⟨w1, w2⟩ | ⟨w1, w2, w3, w4, w5⟩
      · exact Or.inl ⟨w1, w2.of (by omega) (by omega)⟩
      · exact Or.inr ⟨w1, w2, by rw [show nx + (1 + (c1 + c)) = nx + 1 + c1 + c by omega]; exact w3, by rw [show nx + (1 + (c1 + c)) = nx + 1 + c1 + c by omega]; exact w4, (StK.low k0).trans (Nat.le_succ nx) ((hF0.stk q3).trans (Nat.le_add_right _ c1) w5)⟩
  · rintro q G1 c1 s1 ⟨q1, q2, q3, q4⟩
    rcases q4 with ⟨-, c2, -⟩ | ⟨c1', c2⟩
    · cases c2
    · refine ⟨by omega, by omega, fun b hb => by rw [q3 b (by omega) (by omega) (by omega)]; exact k0 b (by omega), ?_⟩
      rw [show pCh l 5 [] t = .inl (lexT l t.2.2.2).1 by unfold pCh; rw [nuI_wrong c1']; rfl]
      exact c2.of (by omega) (by omega)
end X

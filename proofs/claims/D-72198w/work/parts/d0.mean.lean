/-! PURE 87: RunWatch.mean -/
section X
variable {V : HEn} {N0 xo mo pk ra : Nat} {p : Pn}
/-- equations: rows below j are laid, row j has s signs -/
def eqP (n : Nat) (stp : Nat → Nat → Option Nat) (ch : Nat → Nat) (j : Nat) (s : Option Nat) : Mx := fun i c => if i < j then eqM n stp ch i c else if i = j then (match s with
  | some s => eqR n stp ch j s c
  | none => 0) else 0
theorem mean_sign {k19 : Gh → Nat → Int32 → Option Nat → Int32 → HO Int32} {j : Nat} {ad : Nat → Nat} (hok : RsOk p.1) (hch : ∀ s, s < 5 → chN p s < 100) (hj : j < nS p) :
    ∀ (i s m : Nat) (G : Gh) (nx : Nat) (Q : Int32 → Gh → Nat → Nat → Prop), s + i = 5 → i + 1 ≤ m → MR V G N0 xo mo p pk → GMx V G N0 ra (nS p) ad (eqP (nS p) (stT p.1) (chN p) j (some s)) →
    (∀ (G' : Gh), MR V G' N0 xo mo p pk → GMx V G' N0 ra (nS p) ad (eqP (nS p) (stT p.1) (chN p) (j + 1) none) → (∀ b, b < N0 → G' b = G b) → wH (k19 G' nx (nI (nS p)) (some ra) (nI (j + 1))) Q) →
    wH (hL_X0_mean_43 V xo k19 m G nx (nI (nS p)) (some ra) (nI j) (nI s)) Q := by
  have h36 : nS p ≤ 36 := (sts_ok hok).2.2.2.1
  intro i
  induction i with
  | zero =>
    intro s m G nx Q hs hm hM hG K
    obtain ⟨m, rfl⟩ := Nat.exists_eq_succ_of_ne_zero (show m ≠ 0 by omega)
    have : s = 5 := by omega
    subst this
    rw [hL_X0_mean_43]
    refine w_pos (Int32.le_refl _) ?_
    rw [nI_1]
    refine K G hM (hG.congr (fun i' hi' c hc => ?_)) (fun _ _ => rfl)
    unfold eqP
    by_cases c1 : i' < j
    · rw [if_pos c1, if_pos (by omega)]
    · rw [if_neg c1]
      by_cases c2 : i' = j
      · rw [if_pos c2, if_pos (by omega), c2]; rfl
      · rw [if_neg c2, if_neg (by omega)]
        split <;> rfl
  | succ i ih =>
    intro s m G nx Q hs hm hM hG K
    obtain ⟨m, rfl⟩ := Nat.exists_eq_succ_of_ne_zero (show m ≠ 0 by omega)
    obtain ⟨F, hA⟩ := hM.at_
    have hb0 := hM.b0
    rw [hL_X0_mean_43]
    refine w_neg (fun z => by have := (nI_leq (a := 5) (b := s) (by omega) (by omega)).mp z; omega) (w_pos hM.gC (w_call0 hM.machine (w_some (w_pos hA.gC (w_call0 (hA.step hj (show s < 5 by omega)) ?_)))))
    unfold hB_X0_mean_103
    rw [nI_1]
    have eP : ∀ c, eqP (nS p) (stT p.1) (chN p) j (some s) j c = eqR (nS p) (stT p.1) (chN p) j s c := fun c => by
      unfold eqP; rw [if_neg (Nat.lt_irrefl _), if_pos rfl]
    have eR : ∀ c, eqR (nS p) (stT p.1) (chN p) j (s + 1) c = if stT p.1 j s = some c then (eqR (nS p) (stT p.1) (chN p) j s c + PP - chN p s) % PP else eqR (nS p) (stT p.1) (chN p) j s c := fun _ => rfl
    cases es : stT p.1 j s with
    | none =>
      refine w_pos rfl (ih (s + 1) m G nx Q (by omega) (by omega) hM (hG.congr (fun i' hi' c hc => ?_)) K)
      unfold eqP
      by_cases c1 : i' < j
      · rw [if_pos c1, if_pos c1]
      · rw [if_neg c1, if_neg c1]
        by_cases c2 : i' = j
        · rw [if_pos c2, if_pos c2]
          show eqR (nS p) (stT p.1) (chN p) j s c = eqR (nS p) (stT p.1) (chN p) j (s + 1) c
          rw [eR, es, if_neg (by simp)]
        · rw [if_neg c2, if_neg c2]
    | some y =>
      have hy := stT_ok p j s y hj (by omega) es
      obtain ⟨⟨r, r1, r2⟩, h2, h3, h4, h5, h6, h7⟩ := id hG
      obtain ⟨f, f1, f2⟩ := h2 j hj
      refine w_neg (fun z => by have := (tell_iff (fun d hd => by cases hd; omega)).mp z; cases this) (w_some (w_rdR r1 (gd_nI hj (by omega)) (w_rdR r1 (gd_nI hj (by omega)) ?_)))
      rw [r2 j hj]
      refine w_some (w_rdJ f1 (gd_nI (show y < nS p + 1 by omega) (by omega)) (hM.ch (show s < 5 by omega) ?_))
      refine w_some (w_wrJ f1 (by have := (h4 j hj).1; omega) (gd_nI (show y < nS p + 1 by omega) (by omega)) ?_)
      rw [f2 y (by omega), eP, addrem (eqR_lt s) (hch s (by omega))]
      refine ih (s + 1) m _ nx Q (by omega) (by omega) (hM.low (fun b hb => gset_ne _ _ (by have := (h4 j hj).1; omega))) (hG.set hj f1 (Nat.mod_lt _ (by decide)) (fun i' hi' c hc => ?_)) (fun G' k1 k2 k3 => K G' k1 k2 (fun b hb => by rw [k3 b hb, gset_ne _ _ (by have := (h4 j hj).1; omega)]))
      unfold eqP
      by_cases c1 : i' < j
      · rw [if_pos c1, if_pos c1, if_neg (fun z => by omega)]
      · rw [if_neg c1, if_neg c1]
        by_cases c2 : i' = j
        · rw [if_pos c2, if_pos c2]
          show eqR (nS p) (stT p.1) (chN p) j (s + 1) c = (if i' = j ∧ c = y then _ else eqR (nS p) (stT p.1) (chN p) j s c)
          rw [eR, es]
          by_cases c3 : c = y
          · rw [if_pos (by rw [c3]), if_pos ⟨c2, c3⟩, c3]
          · rw [if_neg (fun z => c3 (Option.some.inj z).symm), if_neg (fun z => c3 z.2)]
        · rw [if_neg c2, if_neg c2, if_neg (fun z => c2 z.1)]
theorem mean_states {ad : Nat → Nat} {nx j0 : Nat} (hV : 1200 ≤ V.2.2.2.2) (hok : RsOk p.1) (hch : ∀ s, s < 5 → chN p s < 100) (hpl : pk ∈ plcs p.1) (hst : stO p.1 pk = some j0) (hj0 : j0 < nS p) : ∀ (i j m : Nat) (G : Gh), j + i = nS p → i + 1 ≤ m → MR V G N0 xo mo p pk → GMx V G N0 ra (nS p) ad (eqP (nS p) (stT p.1) (chN p) j none) → wH (hL_X0_mean_19 V xo m G nx (nI (nS p)) (some ra) (nI j)) (fun r G' c s => c = 0 ∧ s = 0 ∧ (∀ b, b < N0 → G' b = G b) ∧ r = (match gsL (nS p) (nS p) 0 (eqM (nS p) (stT p.1) (chN p)) with
      | some M => nI (M j0 (nS p))
      | none => -9)) := by
  have h36 : nS p ≤ 36 := (sts_ok hok).2.2.2.1
  intro i
  induction i with
  | zero =>
    intro j m G hj hm hM hG
    obtain ⟨m, rfl⟩ := Nat.exists_eq_succ_of_ne_zero (show m ≠ 0 by omega)
    have : j = nS p := by omega
    subst this
    have hG1 : GMx V G N0 ra (nS p) ad (eqM (nS p) (stT p.1) (chN p)) := hG.congr (fun i' hi' c hc => if_pos hi')
    obtain ⟨⟨r, r1, r2⟩, -⟩ := id hG1
    rw [hL_X0_mean_19]
    refine w_pos (Int32.le_refl _) (w_pos hM.gC (w_call0 (hM.stateNow hV hpl hst) ?_))
    unfold hF_X0_solves
    refine w_call (w_some (w_aln r1 (solve_loop (nx := nx + 0) hV (by omega) (nS p) 0 V.2.2.2.2 G ad _ (by omega) (by omega) hG1))) ?_
    rintro q G1 c1 s1 ⟨rfl, rfl, q3, q4⟩
    unfold hB_X0_mean_138
    rcases q4 with ⟨rfl, q4⟩ | ⟨rfl, ad', M', q4, q5⟩
    · refine w_pos rfl (w_ret ⟨rfl, rfl, q3, ?_⟩)
      rw [q4]
    · obtain ⟨⟨r', r1', r2'⟩, h2', -⟩ := q5
      obtain ⟨f, f1, f2⟩ := h2' j0 hj0
      refine w_neg (by decide) (w_some (w_rdR r1' (gd_nI hj0 (by omega)) ?_))
      rw [r2' j0 hj0]
      refine w_some (w_rdJ f1 (gd_nI (show nS p < nS p + 1 by omega) (by omega)) (w_ret ⟨rfl, rfl, q3, ?_⟩))
      rw [q4, f2 (nS p) (Nat.le_refl _), lN_i]
  | succ i ih =>
    intro j m G hj hm hM hG
    obtain ⟨m, rfl⟩ := Nat.exists_eq_succ_of_ne_zero (show m ≠ 0 by omega)
    have hjn : j < nS p := by omega
    have hb0 := hM.b0
    obtain ⟨⟨r, r1, r2⟩, h2, h3, h4, h5, h6, h7⟩ := id hG
    obtain ⟨f, f1, f2⟩ := h2 j hjn
    have hne : ra ≠ ad j := Ne.symm (h4 j hjn).2
    rw [hL_X0_mean_19]
    refine w_neg (fun z => by have := (nI_leq (by omega) (by omega)).mp z; omega) (w_some (w_rdR r1 (gd_nI hjn (by omega)) ?_))
    rw [r2 j hjn]
    have e10 : (10 : Int64) = lN 10 := rfl
    rw [e10]
    refine w_some (w_wrJ f1 (by have := (h4 j hjn).1; omega) (gd_nI (show j < nS p + 1 by omega) (by omega)) ?_)
    have hG1 := hG.set (M' := fun i' c => if i' = j ∧ c = j then 10 else eqP (nS p) (stT p.1) (chN p) j none i' c) (j := j) (v := 10) hjn f1 (by decide) (fun _ _ _ _ => rfl)
    obtain ⟨⟨r', r1', r2'⟩, h2', -⟩ := id hG1
    refine w_rdR r1' (gd_nI hjn (by omega)) ?_
    rw [r2' j hjn]
    refine w_some (w_wrJ (gset_eq _ _ _) (by have := (h4 j hjn).1; omega) (gd_nI (show nS p < nS p + 1 by omega) (by omega)) ?_)
    have hG2 := hG1.set (M' := eqP (nS p) (stT p.1) (chN p) j (some 0)) (j := nS p) (v := 10) hjn (gset_eq _ _ _) (by decide) (fun i' hi' c hc => by
      unfold eqP
      by_cases c1 : i' < j
      · rw [if_pos c1, if_neg (fun z => by omega), if_neg (fun z => by omega), if_pos c1]
      · rw [if_neg c1]
        by_cases c2 : i' = j
        · rw [if_pos c2]
          show (if c = j ∨ c = nS p then 10 else 0) = _
          by_cases c3 : c = nS p
          · rw [if_pos (Or.inr c3), if_pos ⟨c2, c3⟩]
          · by_cases c4 : c = j
            · rw [if_pos (Or.inl c4), if_neg (fun z => c3 z.2), if_pos ⟨c2, c4⟩]
            · rw [if_neg (by omega), if_neg (fun z => c3 z.2), if_neg (fun z => c4 z.2), if_neg c1, if_pos c2]
        · rw [if_neg c2, if_neg (fun z => c2 z.1), if_neg (fun z => c2 z.1), if_neg c1, if_neg c2])
    refine mean_sign (k19 := hL_X0_mean_19 V xo m) (ad := ad) hok hch hjn 5 0 V.2.2.2.2 _ nx _ rfl (by omega) (hM.low (fun b hb => by rw [gset_ne _ _ (by have := (h4 j hjn).1; omega), gset_ne _ _ (by have := (h4 j hjn).1; omega)])) hG2 ?_
    intro G' k1 k2 k3
    refine w_mono (ih (j + 1) m G' (by omega) (by omega) k1 k2) ?_
    rintro q G3 c s ⟨q1, q2, q3, q4⟩
    exact ⟨q1, q2, fun b hb => by rw [q3 b hb, k3 b hb, gset_ne _ _ (by have := (h4 j hjn).1; omega), gset_ne _ _ (by have := (h4 j hjn).1; omega)], q4⟩
theorem gM_at {G : Gh} {B n : Nat} (hb : V.1 ≤ B) : GMx V (gM G (V.2.1 7) (V.2.1 2) B n (n + 1)) B B n (fun i => B + 1 + i) (fun _ _ => 0) := by
  refine ⟨⟨fun j => some (B + 1 + j), by unfold gM; rw [if_pos rfl], fun i hi => rfl⟩, fun i hi => ⟨fun _ => 0, ?_, fun j hj => rfl⟩, fun i hi i' hi' e => ?_, fun i hi => ?_, Nat.le_refl _, hb, fun i hi j hj => by show 0 < PP; decide⟩
  · show gM G (V.2.1 7) (V.2.1 2) B n (n + 1) (B + 1 + i) = _
    unfold gM
    rw [if_neg (by omega), if_pos (by omega)]
  · have : B + 1 + i = B + 1 + i' := e
    omega
  · show B ≤ B + 1 + i ∧ B + 1 + i ≠ B
    omega
theorem ct_mean (hV : 1200 ≤ V.2.2.2.2) : Ct V xo (fun G nx => hF_X0_mean V G nx xo) (fun S => (spMean S, S)) := by
  rintro G nx S ul h0
  have h00 := h0
  obtain ⟨tg, d0, da, ia, ro, rd, tx, pl, i0, i1, rws, hW, hR, e1, e2, e3, hu⟩ := h0
  obtain ⟨c1, c2, c3⟩ := hW.2.2.1
  have hok : DkOk S.1 := (hW.2.2.2.2.2.2.2.2.1 (d0, S.1) (by simp [dsk])).2
  have h36 : nS S.1.1 ≤ 36 := (sts_ok hok.1.1).2.2.2.1
  have hgl := gLast_ok (l := S.1.2) hok.1 (st0_ok hok.1) (fun y hy => (hok.2.2.2 y hy).2)
  obtain ⟨j, j1, j2⟩ := stO_some hok.1.1 hgl.1
  have ej : stN S = j := by unfold stN; rw [j1]; rfl
  show wH (hF_X0_mean V G nx xo) (fun r G' c s => r = spMean S ∧ ∃ ul', Wd V G' (nx + c) xo S ul' ∧ Cost c s ul.length ul'.length)
  unfold hF_X0_mean
  refine w_pos (gC_at c1) (w_call (mach_d hV h00) ?_)
  rintro r G1 n1 s1 ⟨mo, ul', rfl, u1, u2, u3, u4, u5⟩
  obtain ⟨F, hM⟩ := u2.at_
  have bb := u2.b0
  refine w_some (w_pos hM.gC (w_call0 hM.many (w_gn (n := nS S.1.1) (by omega) ?_)))
  rw [nI_1]
  refine w_gn (n := nS S.1.1 + 1) (by omega) (w_tick ?_)
  have k2 : ∀ b, b < nx + n1 → gM G1 (V.2.1 7) (V.2.1 2) (nx + n1) (nS S.1.1) (nS S.1.1 + 1) b = G1 b := fun b hb => by
    unfold gM
    rw [if_neg (by omega), if_neg (by omega)]
  have hG : GMx V (gM G1 (V.2.1 7) (V.2.1 2) (nx + n1) (nS S.1.1) (nS S.1.1 + 1)) (nx + n1) (nx + n1) (nS S.1.1) (fun i => nx + n1 + 1 + i) (eqP (nS S.1.1) (stT S.1.1.1) (chN S.1.1) 0 none) := by
    refine (gM_at (n := nS S.1.1) bb).congr (fun i hi j hj => ?_)
    unfold eqP
    rw [if_neg (Nat.not_lt_zero _)]
    split <;> rfl
  have hsq : nS S.1.1 * (nS S.1.1 + 1) ≤ 36 * 37 := Nat.mul_le_mul h36 (by omega)
  refine w_mono (mean_states (N0 := nx + n1) (ra := nx + n1) hV hok.1.1 (ch_lt hok.1) hgl.1 j1 j2 (nS S.1.1) 0 V.2.2.2.2 _ (by omega) (by omega) (u2.low k2) hG) ?_
  rintro q G3 n3 s3 ⟨rfl, rfl, q3, q4⟩
  refine ⟨?_, ul', u1.low (by omega) (fun b hb => (q3 b hb).trans (k2 b hb)), ?_⟩
  · rw [q4]
    unfold spMean
    rw [ej]
    rfl
  · exact mCost (c2 := nS S.1.1 + 1 + 0) (s2 := nS S.1.1 + nS S.1.1 * (nS S.1.1 + 1) + 0) u5 (by omega) (by omega)
end X

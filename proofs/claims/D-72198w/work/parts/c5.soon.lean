/-! PURE 82: RunWatch.soonest -/
section D
variable {n : Nat} {stp : Nat → Nat → Option Nat}
def sgE (n : Nat) (stp : Nat → Nat → Option Nat) (d j s : Nat) : Bool := match stp j s with
  | none => decide (d = 1)
  | some x => decide (dF n stp x = some (d - 1))
/-- the least sign on a shortest way -/
def sgn (n : Nat) (stp : Nat → Nat → Option Nat) (d j : Nat) : Nat := ((List.range 5).find? (sgE n stp d j)).getD 0
/-- the k-th sign on a shortest way -/
def sgP (n : Nat) (stp : Nat → Nat → Option Nat) : Nat → Nat → Nat → Int32
  | 0, d, j => nI (sgn n stp d j)
  | k + 1, d, j => match stp j (sgn n stp d j) with
    | some x => sgP n stp k (d - 1) x
    | none => -9
theorem sgn_ok {d j : Nat} (h : dF n stp j = some d) : sgn n stp d j < 5 ∧ sgE n stp d j (sgn n stp d j) = true ∧ ∀ s, s < sgn n stp d j → sgE n stp d j s = false := by
  obtain ⟨h1, h2, h3⟩ := fk_some.mp (show fk stp n j = some d from h)
  have hd := fk_pos (show fk stp n j = some d from h)
  obtain ⟨d', rfl⟩ := Nat.exists_eq_succ_of_ne_zero (show d ≠ 0 by omega)
  obtain ⟨s, hs, w⟩ := rch_ex h2 (h3 d' (by omega))
  have ex : sgE n stp (d' + 1) j s = true := by
    unfold sgE
    rcases w with ⟨w1, w2⟩ | ⟨x, w1, w2, w3⟩
    · rw [w1, w2]; rfl
    · rw [w1]
      exact decide_eq_true (fk_some.mpr ⟨by omega, w2, w3⟩)
  have hf : ∃ r, (List.range 5).find? (sgE n stp (d' + 1) j) = some r := by
    cases e : (List.range 5).find? (sgE n stp (d' + 1) j) with
    | some r => exact ⟨r, rfl⟩
    | none =>
      have := List.find?_eq_none.mp e s (List.mem_range.mpr hs)
      exact absurd ex this
  obtain ⟨r, hr⟩ := hf
  have er : sgn n stp (d' + 1) j = r := by unfold sgn; rw [hr]; rfl
  rw [er]
  rw [List.find?_eq_some_iff_getElem] at hr
  obtain ⟨g1, i, hi, g2, g3⟩ := hr
  rw [List.getElem_range] at g2
  subst g2
  refine ⟨by simpa using hi, g1, fun s hs => ?_⟩
  have := g3 s hs
  rw [List.getElem_range] at this
  simpa using this
end D
def spSoon (S : Sp) (a : Int32) : Int32 := if (-1) ≤ a then (match dF (nS S.1.1) (stT S.1.1.1) (stN S) with
  | none => -9
  | some d => if a < 0 then nI d else if a < nI d then sgP (nS S.1.1) (stT S.1.1.1) a.toNatClampNeg d (stN S) else -9) else -1
section X
variable {V : HEn} {N0 xo mo pk fa : Nat} {p : Pn} {G : Gh}
theorem soon_sign {k47 : Gh → Nat → Int32 → Option Nat → Int32 → Int32 → HO Int32} {j d kk nn nx : Nat} {g : Nat → Int32} {Q : Int32 → Gh → Nat → Nat → Prop} (hok : RsOk p.1) (hM : MR V G N0 xo mo p pk) (hG : G fa = some (.inl (V.2.1 0, nS p, .inl g))) (hg : ∀ l, l < nS p → g l = eN (dF (nS p) (stT p.1) l)) (hj : j < nS p) (hd : dF (nS p) (stT p.1) j = some d)
    (K : wH (hB_X0_soonest_107 V xo k47 G nx (nI kk) (some fa) (nI j) (nI nn) (nI (sgn (nS p) (stT p.1) d j))) Q) :
    ∀ (i s m : Nat), s + i = sgn (nS p) (stT p.1) d j → i + 1 ≤ m → wH (hL_X0_soonest_56 V xo k47 m G nx (nI kk) (some fa) (nI j) (nI nn) (nI s)) Q := by
  have h36 : nS p ≤ 36 := (sts_ok hok).2.2.2.1
  obtain ⟨s1, s2, s3⟩ := sgn_ok hd
  have hdn := (fk_some.mp (show fk (stT p.1) (nS p) j = some d from hd)).1
  have hd1 := fk_pos (show fk (stT p.1) (nS p) j = some d from hd)
  have dlt : ∀ {x d'}, dF (nS p) (stT p.1) x = some d' → d' < 2 ^ 31 := fun {x d'} h => by have := (fk_some.mp (show fk (stT p.1) (nS p) x = some d' from h)).1; omega
  obtain ⟨F, hA⟩ := hM.at_
  -- what is asked at a sign
  have ask : ∀ (s : Nat) (k56 : Gh → Nat → Int32 → Option Nat → Int32 → Int32 → Int32 → HO Int32), s < 5 → (sgE (nS p) (stT p.1) d j s = true → wH (hB_X0_soonest_107 V xo k47 G nx (nI kk) (some fa) (nI j) (nI nn) (nI s)) Q) → (sgE (nS p) (stT p.1) d j s = false → wH (hB_X0_soonest_101 V xo k47 k56 G nx (nI kk) (some fa) (nI j) (nI nn) (nI s)) Q) → wH (if gC G xo 0 = true then cB (hF_X0_machine V G nx xo) fun r22 G23 c24 => (r22).bind fun a29 => if gC G23 a29 7 = true then cB (hF_X8_step V G23 (nx + c24) a29 (nI j) (nI s)) fun y32 G33 c34 => if y32 = (-5) then ((some fa).bind fun a40 => (rdI G33 (V.2.1 0) a40 (nI j)).bind fun v42 => if v42 ≤ 1 then (hB_X0_soonest_107 V xo k47 G33 ((nx + c24) + c34) (nI kk) (some a40) (nI j) (nI nn) (nI s)) else (hB_X0_soonest_101 V xo k47 k56 G33 ((nx + c24) + c34) (nI kk) (some a40) (nI j) (nI nn) (nI s))) else (if gC G33 xo 0 = true then cB (hF_X0_machine V G33 ((nx + c24) + c34) xo) fun r46 G47 c48 => (r46).bind fun a53 => if gC G47 a53 7 = true then cB (hF_X8_step V G47 (((nx + c24) + c34) + c48) a53 (nI j) (nI s)) fun y56 G57 c58 => ((some fa).bind fun a63 => (rdI G57 (V.2.1 0) a63 y56).bind fun v65 => (rdI G57 (V.2.1 0) a63 (nI j)).bind fun v67 => if v65 = (v67 - 1) then (hB_X0_soonest_107 V xo k47 G57 ((((nx + c24) + c34) + c48) + c58) (nI kk) (some a63) (nI j) (nI nn) (nI s)) else (hB_X0_soonest_101 V xo k47 k56 G57 ((((nx + c24) + c34) + c48) + c58) (nI kk) (some a63) (nI j) (nI nn) (nI s))) else none else none) else none else none) Q := by
    intro s k56 hs yes no
    refine w_pos hM.gC (w_call0 hM.machine (w_some (w_pos hA.gC (w_call0 (hA.step hj hs) ?_))))
    unfold sgE at yes no
    cases es : stT p.1 j s with
    | none =>
      rw [es] at yes no
      refine w_pos rfl (w_some (w_rdI hG (gd_nI hj (by omega)) ?_))
      rw [hg j hj, hd]
      by_cases c : d = 1
      · exact w_pos (by rw [c]; exact Int32.le_refl _) (yes (decide_eq_true c))
      · exact w_neg (nI_ge (a := 1) (by omega) (by omega)) (no (decide_eq_false c))
    | some x =>
      rw [es] at yes no
      have hx := stT_ok p j s x hj hs es
      refine w_neg (fun z => by have := (tell_iff (fun d hd => by cases hd; omega)).mp z; cases this) (w_pos hM.gC (w_call0 hM.machine (w_some (w_pos hA.gC (w_call0 (hA.step hj hs) (w_some ?_))))))
      rw [es]
      refine w_rdI hG (gd_nI hx (by omega)) (w_rdI hG (gd_nI hj (by omega)) ?_)
      rw [hg j hj, hg x hx, hd]
      obtain ⟨d', rfl⟩ := Nat.exists_eq_succ_of_ne_zero (show d ≠ 0 by omega)
      have ed : eN (some (d' + 1)) - 1 = nI d' := nI_pred d'
      rw [show d'.succ = d' + 1 from rfl, ed]
      by_cases c : dF (nS p) (stT p.1) x = some d'
      · exact w_pos ((eN_iff (fun _ h => dlt h) (by omega)).mpr c) (yes (decide_eq_true c))
      · exact w_neg (fun z => c ((eN_iff (fun _ h => dlt h) (by omega)).mp z)) (no (decide_eq_false c))
  intro i
  induction i with
  | zero =>
    intro s m hs hm
    obtain ⟨m, rfl⟩ := Nat.exists_eq_succ_of_ne_zero (show m ≠ 0 by omega)
    have : s = sgn (nS p) (stT p.1) d j := by omega
    subst this
    rw [hL_X0_soonest_56]
    exact ask _ _ s1 (fun _ => K) (fun w => by rw [s2] at w; cases w)
  | succ i ih =>
    intro s m hs hm
    obtain ⟨m, rfl⟩ := Nat.exists_eq_succ_of_ne_zero (show m ≠ 0 by omega)
    rw [hL_X0_soonest_56]
    refine ask s _ (by omega) (fun w => by rw [s3 s (by omega)] at w; cases w) (fun _ => ?_)
    unfold hB_X0_soonest_101
    rw [nI_1]
    exact ih (s + 1) m (by omega) (by omega)
theorem soon_loop {kk nx : Nat} {g : Nat → Int32} (hV : 1200 ≤ V.2.2.2.2) (hok : RsOk p.1) (hM : MR V G N0 xo mo p pk) (hG : G fa = some (.inl (V.2.1 0, nS p, .inl g))) (hg : ∀ l, l < nS p → g l = eN (dF (nS p) (stT p.1) l)) (hk : kk < 100) : ∀ (i nn m d j : Nat), nn + i = kk → i + 1 ≤ m → i < d → j < nS p → dF (nS p) (stT p.1) j = some d → wH (hL_X0_soonest_47 V xo m G nx (nI kk) (some fa) (nI j) (nI nn)) (fun r G' c s => r = sgP (nS p) (stT p.1) i d j ∧ G' = G ∧ c = 0 ∧ s = 0) := by
  have h36 : nS p ≤ 36 := (sts_ok hok).2.2.2.1
  obtain ⟨F, hA⟩ := hM.at_
  intro i
  induction i with
  | zero =>
    intro nn m d j hi hm hd hj hdj
    obtain ⟨m, rfl⟩ := Nat.exists_eq_succ_of_ne_zero (show m ≠ 0 by omega)
    have : nn = kk := by omega
    subst this
    rw [hL_X0_soonest_47]
    refine w_neg (nI_nlt (Nat.le_refl _) (by omega)) (soon_sign hok hM hG hg hj hdj ?_ (sgn (nS p) (stT p.1) d j) 0 V.2.2.2.2 (by omega) (by have := (sgn_ok hdj).1; omega))
    unfold hB_X0_soonest_107
    exact w_pos rfl (w_ret ⟨rfl, rfl, rfl, rfl⟩)
  | succ i ih =>
    intro nn m d j hi hm hd hj hdj
    obtain ⟨m, rfl⟩ := Nat.exists_eq_succ_of_ne_zero (show m ≠ 0 by omega)
    obtain ⟨s1, s2, s3⟩ := sgn_ok hdj
    rw [hL_X0_soonest_47]
    refine w_neg (nI_nlt (by omega) (by omega)) (soon_sign hok hM hG hg hj hdj ?_ (sgn (nS p) (stT p.1) d j) 0 V.2.2.2.2 (by omega) (by omega))
    unfold hB_X0_soonest_107
    refine w_neg (fun z => by have := (nI_eq (by omega) (by omega)).mp z; omega) (w_pos hM.gC (w_call0 hM.machine (w_some (w_pos hA.gC (w_call0 (hA.step hj s1) ?_)))))
    unfold sgE at s2
    rw [sgP]
    cases es : stT p.1 j (sgn (nS p) (stT p.1) d j) with
    | none =>
      rw [es] at s2
      have := of_decide_eq_true s2
      omega
    | some x =>
      rw [es] at s2
      have hx := stT_ok p j _ x hj s1 es
      rw [nI_1]
      exact ih (nn + 1) m (d - 1) x (by omega) (by omega) (by omega) hx (of_decide_eq_true s2)
theorem ct_soonest {a : Int32} (hV : 1200 ≤ V.2.2.2.2) : Ct V xo (fun G nx => hF_X0_soonest V G nx xo a) (fun S => (spSoon S a, S)) := by
  rintro G nx S ul h0
  have h00 := h0
  obtain ⟨tg, d0, da, ia, ro, rd, tx, pl, i0, i1, rws, hW, hR, e1, e2, e3, hu⟩ := h0
  obtain ⟨c1, c2, c3⟩ := hW.2.2.1
  have hok : DkOk S.1 := (hW.2.2.2.2.2.2.2.2.1 (d0, S.1) (by simp [dsk])).2
  have h36 : nS S.1.1 ≤ 36 := (sts_ok hok.1.1).2.2.2.1
  have hgl := gLast_ok (l := S.1.2) hok.1 (st0_ok hok.1) (fun y hy => (hok.2.2.2 y hy).2)
  obtain ⟨j, j1, j2⟩ := stO_some hok.1.1 hgl.1
  have ej : stN S = j := by unfold stN; rw [j1]; rfl
  show wH (hF_X0_soonest V G nx xo a) (fun r G' c s => r = spSoon S a ∧ ∃ ul', Wd V G' (nx + c) xo S ul' ∧ Cost c s ul.length ul'.length)
  unfold hF_X0_soonest spSoon
  by_cases ca : (-1 : Int32) ≤ a
  · rw [if_pos ca]
    refine w_pos (gC_at c1) ?_
    unfold hF_X0_fars
    refine w_cB (w_pos (gC_at c1) (w_call (mach_d hV h00) ?_))
    rintro r G1 n1 s1 ⟨mo, ul', rfl, u1, u2, u3, u4, u5⟩
    obtain ⟨F, hM⟩ := u2.at_
    refine w_some (w_pos hM.gC (w_call0 hM.many (w_gn (n := nS S.1.1) (by omega) (w_tick ?_))))
    unfold hF_J11_fill_2
    have bb : V.1 ≤ nx + n1 := by obtain ⟨tg, d0, da, ia, ro, rd, tx, pl, i0, i1, rws, hW', -⟩ := u1; exact hW'.1.2.1
    refine w_call (w_some (w_aln (gset_eq _ _ _) (fill_at (n := nS S.1.1) (by omega) (by omega) (nS S.1.1) 0 V.2.2.2.2 _ _ _ (by omega) (by omega) (gset_eq _ _ _) (fun l hl => absurd hl (Nat.not_lt_zero _))))) ?_
    rintro - G2 n2 s2 ⟨rfl, rfl, ⟨g, v1, v2⟩, v3⟩
    have k2 : ∀ b, b < nx + n1 → G2 b = G1 b := fun b hb => by rw [v3 b (by omega)]; exact gset_ne _ _ (by omega)
    have hM2 := u2.low k2
    refine w_mono (far_rounds (pk := (gLast S.1.1 (0, 0, 0) S.1.2).1) (N0 := nx + n1) (fa := nx + n1) hV hok.1.1 (Nat.le_refl _) (nS S.1.1 + 1) 0 V.2.2.2.2 G2 _ g 1 (by omega) (by omega) hM2 v1 (fun l hl => by rw [v2 l hl]; rfl) (Or.inl ⟨rfl, Nat.zero_le _⟩)) ?_
    rintro r G3 n3 s3 ⟨rfl, rfl, rfl, ⟨g', w1, w2⟩, w3⟩
    have k3 : ∀ b, b < nx + n1 → G3 b = G1 b := fun b hb => by rw [w3 b (by omega), k2 b hb]
    have hM3 := u2.low k3
    have fin : ∃ ul', Wd V G3 (nx + (n1 + (1 + (0 + 0)) + 0)) xo S ul' ∧ Cost (n1 + (1 + (0 + 0)) + 0) (s1 + (nS S.1.1 + (0 + 0)) + 0) ul.length ul'.length := by
      refine ⟨ul', u1.low (by omega) k3, ?_⟩
      exact mCost (c2 := 1 + (0 + 0)) (s2 := nS S.1.1 + (0 + 0)) u5 (by omega) (by omega)
    refine w_pos hM3.gC (w_call0 (hM3.stateNow hV hgl.1 j1) (w_some (w_rdI w1 (gd_nI j2 (by omega)) ?_)))
    rw [w2 j j2]
    unfold hB_X0_soonest_32 hB_X0_soonest_43
    rw [ej]
    cases ed : dF (nS S.1.1) (stT S.1.1.1) j with
    | none =>
      by_cases cn : a < 0
      · exact w_pos cn (w_neg (fun z => by rw [Int32.lt_iff_toInt_lt] at cn; rw [Int32.le_iff_toInt_le] at z; omega) (w_ret ⟨by rw [if_pos ca]; rfl, fin⟩))
      · refine w_neg cn (w_neg (fun z => ?_) (w_pos (by rw [Int32.lt_iff_toInt_lt] at cn; rw [Int32.le_iff_toInt_le]; omega) (w_ret ⟨by rw [if_pos ca], fin⟩)))
        rw [Int32.lt_iff_toInt_lt] at cn z
        have e9 : (eN none).toInt = -9 := by decide
        have e0 : (0 : Int32).toInt = 0 := by decide
        rw [e9] at z
        rw [e0] at cn
        omega
    | some d =>
      have hdn := (fk_some.mp (show fk (stT S.1.1.1) (nS S.1.1) j = some d from ed)).1
      by_cases cn : a < 0
      · exact w_pos cn (w_neg (fun z => by rw [Int32.lt_iff_toInt_lt] at cn; rw [Int32.le_iff_toInt_le] at z; omega) (w_ret ⟨by rw [if_pos ca]; simp only; rw [if_pos cn]; rfl, fin⟩))
      · obtain ⟨v, hv, rfl⟩ := nI_of cn
        refine w_neg cn ?_
        by_cases cv : nI v < nI d
        · have hvd := (nI_ltI hv (by omega)).mp cv
          refine w_pos cv (w_mono (soon_loop hV hok.1.1 hM3 w1 w2 (by omega) v 0 V.2.2.2.2 d j (by omega) (by omega) hvd j2 ed) ?_)
          rintro r G4 n4 s4 ⟨rfl, rfl, rfl, rfl⟩
          refine ⟨?_, fin⟩
          rw [if_pos ca]
          simp only
          rw [if_neg cn, if_pos cv, nI_clamp hv]
        · exact w_neg cv (w_pos (nI_pos' hv) (w_ret ⟨by rw [if_pos ca]; simp only; rw [if_neg cn, if_neg cv], fin⟩))
  · rw [if_neg ca]
    exact w_ret ⟨by rw [if_neg ca], Ct.same h00 rfl rfl⟩
end X

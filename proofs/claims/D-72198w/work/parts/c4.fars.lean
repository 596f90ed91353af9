/-! PURE 81: RunWatch.fars -/
def eN (o : Option Nat) : Int32 := match o with
  | some d => nI d
  | none => -9
theorem eN_iff {o : Option Nat} {k : Nat} (ho : ∀ d, o = some d → d < 2 ^ 31) (hk : k < 2 ^ 31) : eN o = nI k ↔ o = some k := by
  cases o with
  | none =>
    refine ⟨fun z => ?_, fun z => by cases z⟩
    have := congrArg Int32.toInt z
    rw [nI_toInt hk, show (eN none).toInt = -9 from by decide] at this
    omega
  | some d =>
    refine ⟨fun z => ?_, fun z => by cases z; rfl⟩
    rw [nI_inj (ho d rfl) hk z]
theorem eN_none {o : Option Nat} (ho : ∀ d, o = some d → d < 2 ^ 31) : eN o = -9 ↔ o = none := by
  cases o with
  | none => exact ⟨fun _ => rfl, fun _ => rfl⟩
  | some d =>
    refine ⟨fun z => ?_, fun z => by cases z⟩
    have := congrArg Int32.toInt z
    have e9 : (-9 : Int32).toInt = -9 := by decide
    rw [show (eN (some d)).toInt = (nI d).toInt from rfl, nI_toInt (ho d rfl), e9] at this
    omega
theorem tell_iff {o : Option Nat} (ho : ∀ d, o = some d → d < 2 ^ 31) : tell o = -5 ↔ o = none := by
  cases o with
  | none => exact ⟨fun _ => rfl, fun _ => rfl⟩
  | some d =>
    refine ⟨fun z => ?_, fun z => by cases z⟩
    have := congrArg Int32.toInt z
    have e9 : (-5 : Int32).toInt = -5 := by decide
    rw [show (tell (some d)).toInt = (nI d).toInt from rfl, nI_toInt (ho d rfl), e9] at this
    omega
def mrB (stp : Nat → Nat → Option Nat) (k j : Nat) : Bool := (List.range j).any (fun i => rch stp (k + 1) i && !rch stp k i)
theorem mrB_succ {stp : Nat → Nat → Option Nat} {k j : Nat} : mrB stp k (j + 1) = (mrB stp k j || (rch stp (k + 1) j && !rch stp k j)) := by
  unfold mrB
  rw [List.range_succ, List.any_append]
  simp
section X
variable {V : HEn} {N0 xo mo pk fa : Nat} {p : Pn}
theorem fill_at {v : Int32} {n : Nat} (hfa : V.1 ≤ fa) (hn : n ≤ 1000) : ∀ (j i m : Nat) (G : Gh) (nx : Nat) (g : Nat → Int32), i + j = n → j + 1 ≤ m → G fa = some (.inl (V.2.1 0, n, .inl g)) → (∀ l, l < i → g l = v) → wH (hL_J11_fill_2_5 V m G nx (some fa) v (nI i) (nI n)) (fun _ G' c s => c = 0 ∧ s = 0 ∧ (∃ g', G' fa = some (.inl (V.2.1 0, n, .inl g')) ∧ ∀ l, l < n → g' l = v) ∧ ∀ b, b ≠ fa → G' b = G b) := by
  intro j
  induction j with
  | zero =>
    intro i m G nx g hj hm hG hg
    obtain ⟨m, rfl⟩ := Nat.exists_eq_succ_of_ne_zero (show m ≠ 0 by omega)
    have : i = n := by omega
    subst this
    rw [hL_J11_fill_2_5]
    exact w_pos (Int32.le_refl _) (w_ret ⟨rfl, rfl, ⟨g, hG, hg⟩, fun _ _ => rfl⟩)
  | succ j ih =>
    intro i m G nx g hj hm hG hg
    obtain ⟨m, rfl⟩ := Nat.exists_eq_succ_of_ne_zero (show m ≠ 0 by omega)
    rw [hL_J11_fill_2_5]
    refine w_neg (fun z => by have := (nI_leq (by omega) (by omega)).mp z; omega) (w_some (w_wrI hG hfa (gd_nI (show i < n by omega) (by omega)) ?_))
    rw [nI_1]
    refine w_mono (ih (i + 1) m _ nx (upd g i v) (by omega) (by omega) (gset_eq _ _ _) (fun l hl => ?_)) ?_
    · unfold upd
      by_cases c : l = i
      · rw [if_pos c]
      · rw [if_neg c]; exact hg l (by omega)
    · rintro r G' c s ⟨w1, w2, w3, w4⟩
      exact ⟨w1, w2, w3, fun b hb => by rw [w4 b hb, gset_ne _ _ hb]⟩
/-- the table of a plan's machine -/
abbrev nS (p : Pn) : Nat := (sts p.1).length
theorem stT_ok (p : Pn) : ∀ j s x, j < nS p → s < 5 → stT p.1 j s = some x → x < nS p := fun _ _ _ _ _ h => stT_lt h
theorem far_state {k20 : Gh → Nat → Option Nat → Int32 → Int32 → HO (Option Nat)} {k29 : Gh → Nat → Option Nat → Int32 → Int32 → Int32 → HO (Option Nat)} {k j : Nat} (hV : 1200 ≤ V.2.2.2.2) (hok : RsOk p.1) (hfa : N0 ≤ fa) (hj : j < nS p) (hk : k ≤ 40) :
    ∀ (i s m : Nat) (G : Gh) (nx : Nat) (g : Nat → Int32) (b : Bool) (Q : Option Nat → Gh → Nat → Nat → Prop), s + i = 5 → i + 1 ≤ m → MR V G N0 xo mo p pk → G fa = some (.inl (V.2.1 0, nS p, .inl g)) → (∀ l, l < nS p → l ≠ j → g l = eN (fk (stT p.1) (if l < j then k + 1 else k) l)) → g j = eN (fk (stT p.1) k j) → (∀ s', s' < s → fk (stT p.1) k j = none → ¬ fkE (stT p.1) k j s') →
    (∀ (G' : Gh) (g' : Nat → Int32), MR V G' N0 xo mo p pk → G' fa = some (.inl (V.2.1 0, nS p, .inl g')) → (∀ l, l < nS p → g' l = eN (fk (stT p.1) (if l < j + 1 then k + 1 else k) l)) → (∀ b, b ≠ fa → G' b = G b) → wH (k29 G' nx (some fa) (if b || (rch (stT p.1) (k + 1) j && !rch (stT p.1) k j) then 1 else 0) (nI (k + 1)) (nI (j + 1))) Q) →
    wH (hL_X0_fars_39 V xo k20 k29 m G nx (some fa) (if b then 1 else 0) (nI (k + 1)) (nI j) (nI s)) Q := by
  have h36 : nS p ≤ 36 := (sts_ok hok).2.2.2.1
  have fkb : ∀ {m l d : Nat}, fk (stT p.1) m l = some d → m ≤ 41 → d < 2 ^ 31 := fun {m l d} h hm => by have := (fk_some.mp h).1; omega
  -- when the state is done
  have dn : ∀ (G : Gh) (nx : Nat) (g : Nat → Int32) (b b' : Bool) (Q : Option Nat → Gh → Nat → Nat → Prop), MR V G N0 xo mo p pk → G fa = some (.inl (V.2.1 0, nS p, .inl g)) → (∀ l, l < nS p → l ≠ j → g l = eN (fk (stT p.1) (if l < j then k + 1 else k) l)) → g j = eN (fk (stT p.1) (k + 1) j) → b' = (b || (rch (stT p.1) (k + 1) j && !rch (stT p.1) k j)) → (∀ (G' : Gh) (g' : Nat → Int32), MR V G' N0 xo mo p pk → G' fa = some (.inl (V.2.1 0, nS p, .inl g')) → (∀ l, l < nS p → g' l = eN (fk (stT p.1) (if l < j + 1 then k + 1 else k) l)) → (∀ b, b ≠ fa → G' b = G b) → wH (k29 G' nx (some fa) (if b || (rch (stT p.1) (k + 1) j && !rch (stT p.1) k j) then 1 else 0) (nI (k + 1)) (nI (j + 1))) Q) → wH (hB_X0_fars_105 V xo k20 k29 G nx (some fa) (if b' then 1 else 0) (nI (k + 1)) (nI j)) Q := by
    intro G nx g b b' Q hM hG hg hgj hb K
    unfold hB_X0_fars_105
    rw [nI_1, hb]
    refine K G g hM hG (fun l hl => ?_) (fun _ _ => rfl)
    by_cases c : l = j
    · rw [c, if_pos (by omega)]; exact hgj
    · rw [hg l hl c]
      by_cases c2 : l < j
      · rw [if_pos c2, if_pos (by omega)]
      · rw [if_neg c2, if_neg (by omega)]
  intro i
  induction i with
  | zero =>
    intro s m G nx g b Q hs hm hM hG hg hgj hno K
    obtain ⟨m, rfl⟩ := Nat.exists_eq_succ_of_ne_zero (show m ≠ 0 by omega)
    have : s = 5 := by omega
    subst this
    rw [hL_X0_fars_39]
    refine w_pos (Int32.le_refl _) ?_
    cases e : fk (stT p.1) k j with
    | some d =>
      have r1 : rch (stT p.1) k j = true := by
        cases e2 : rch (stT p.1) k j with
        | true => rfl
        | false => rw [fk_none.mpr e2] at e; cases e
      refine dn G nx g b b Q hM hG hg (by rw [hgj, e, fk_keep e (by omega)]) (by rw [r1]; simp) K
    | none =>
      have r1 := fk_none.mp e
      have r2 : rch (stT p.1) (k + 1) j = false := by
        cases e2 : rch (stT p.1) (k + 1) j with
        | false => rfl
        | true =>
          obtain ⟨s, hs, h2⟩ := (fkE_iff e).mp e2
          exact absurd h2 (hno s hs e)
      refine dn G nx g b b Q hM hG hg (by rw [hgj, e, fk_none.mpr r2]) (by rw [r2]; simp) K
  | succ i ih =>
    intro s m G nx g b Q hs hm hM hG hg hgj hno K
    obtain ⟨m, rfl⟩ := Nat.exists_eq_succ_of_ne_zero (show m ≠ 0 by omega)
    rw [hL_X0_fars_39]
    refine w_neg (fun z => by have := (nI_leq (a := 5) (b := s) (by omega) (by omega)).mp z; omega) (w_some (w_rdI hG (gd_nI hj (by omega)) ?_))
    rw [hgj]
    cases e : fk (stT p.1) k j with
    | some d =>
      have r1 : rch (stT p.1) k j = true := by
        cases e2 : rch (stT p.1) k j with
        | true => rfl
        | false => rw [fk_none.mpr e2] at e; cases e
      refine w_neg (fun z => by have := (eN_none (fun d' hd' => by cases hd'; exact fkb e (by omega))).mp z; cases this) ?_
      exact dn G nx g b b Q hM hG hg (by rw [hgj, e, fk_keep e (by omega)]) (by rw [r1]; simp) K
    | none =>
      have r1 := fk_none.mp e
      obtain ⟨F, hA⟩ := hM.at_
      refine w_pos rfl (w_pos hM.gC (w_call0 hM.machine (w_some (w_pos hA.gC (w_call0 (hA.step hj (show s < 5 by omega)) ?_)))))
      have tb : ∀ d, stT p.1 j s = some d → d < 2 ^ 31 := fun d hd => by have := stT_ok p j s d hj (by omega) hd; omega
      -- it is come to
      have yes : fkE (stT p.1) k j s → wH (hB_X0_fars_92 V xo k20 k29 (hL_X0_fars_39 V xo k20 k29 m) G nx (some fa) (nI (k + 1)) (nI j) (nI s)) Q := by
        intro hE
        have r2 : rch (stT p.1) (k + 1) j = true := (fkE_iff e).mpr ⟨s, by omega, hE⟩
        have f2 : fk (stT p.1) (k + 1) j = some (k + 1) := by rw [fk_step e, r2]; rfl
        unfold hB_X0_fars_92 hB_X0_fars_99
        refine w_some (w_wrI hG (by obtain ⟨_, _, _, _, _, _, _, _, _, _, _, _, _, _, _, _, _, _, _, _, _, _, _, _, _, z, _⟩ := hM; omega) (gd_nI hj (by omega)) ?_)
        rw [nI_1]
        obtain ⟨m, rfl⟩ := Nat.exists_eq_succ_of_ne_zero (show m ≠ 0 by omega)
        have hM1 : MR V (gset G fa (.inl (V.2.1 0, nS p, .inl (upd g j (nI (k + 1)))))) N0 xo mo p pk := hM.low (fun b hb => gset_ne _ _ (by omega))
        have hgj1 : upd g j (nI (k + 1)) j = eN (fk (stT p.1) (k + 1) j) := by unfold upd; rw [if_pos rfl, f2]; rfl
        have hg1 : ∀ l, l < nS p → l ≠ j → upd g j (nI (k + 1)) l = eN (fk (stT p.1) (if l < j then k + 1 else k) l) := fun l hl hne => by unfold upd; rw [if_neg hne]; exact hg l hl hne
        have dd := dn _ nx _ b true Q hM1 (gset_eq _ _ _) hg1 hgj1 (by rw [r2, r1]; simp) (fun G' g' k1 k2 k3 k4 => K G' g' k1 k2 k3 (fun b hb => by rw [k4 b hb, gset_ne _ _ hb]))
        rw [hL_X0_fars_39]
        by_cases c5 : (5 : Int32) ≤ nI (s + 1)
        · exact w_pos c5 dd
        · refine w_neg c5 (w_some (w_rdI (gset_eq _ _ _) (gd_nI hj (by omega)) ?_))
          rw [hgj1]
          refine w_neg (fun z => by rw [f2] at z; have := (eN_none (fun d' hd' => by cases hd'; omega)).mp z; cases this) dd
      -- it is not
      have no : ¬ fkE (stT p.1) k j s → wH (hB_X0_fars_99 V xo k20 k29 (hL_X0_fars_39 V xo k20 k29 m) G nx (some fa) (if b then 1 else 0) (nI (k + 1)) (nI j) (nI s)) Q := by
        intro hE
        unfold hB_X0_fars_99
        rw [nI_1]
        refine ih (s + 1) m G nx g b Q (by omega) (by omega) hM hG hg hgj (fun s' hs' h0 => ?_) K
        by_cases c : s' = s
        · rw [c]; exact hE
        · exact hno s' (by omega) h0
      cases es : stT p.1 j s with
      | none =>
        refine w_pos rfl ?_
        by_cases c : k = 0
        · exact w_pos (by rw [c]; rfl) (yes (Or.inl ⟨es, c⟩))
        · refine w_neg (fun z => c (by have := (nI_eq (b := 1) (by omega) (by omega)).mp z; omega)) (no ?_)
          rintro (w | ⟨x, w1, w2⟩)
          · exact c w.2
          · rw [es] at w1; cases w1
      | some x =>
        have hx := stT_ok p j s x hj (by omega) es
        have hgx : g x = nI k ↔ fk (stT p.1) k x = some k := by
          by_cases cx : x = j
          · rw [cx, hgj]
            exact eN_iff (fun d hd => fkb hd (by omega)) (by omega)
          · rw [hg x hx cx, eN_iff (fun d hd => fkb hd (by split <;> omega)) (by omega)]
            split
            · exact ⟨fun w => fk_down w (Nat.le_refl _), fun w => fk_keep w (by omega)⟩
            · exact Iff.rfl
        refine w_neg (fun z => by have := (tell_iff (fun d hd => by cases hd; exact tb x es)).mp z; cases this) (w_rdI hG (gd_nI hx (by omega)) ?_)
        rw [nI_pred]
        by_cases c : g x = nI k
        · exact w_pos c (yes (Or.inr ⟨x, es, hgx.mp c⟩))
        · refine w_neg c (no ?_)
          rintro (w | ⟨x', w1, w2⟩)
          · rw [es] at w; cases w.1
          · rw [es] at w1; cases w1
            exact c (hgx.mpr w2)
theorem far_states {k20 : Gh → Nat → Option Nat → Int32 → Int32 → HO (Option Nat)} {k : Nat} (hV : 1200 ≤ V.2.2.2.2) (hok : RsOk p.1) (hfa : N0 ≤ fa) (hk : k ≤ 40) :
    ∀ (i j m : Nat) (G : Gh) (nx : Nat) (g : Nat → Int32) (Q : Option Nat → Gh → Nat → Nat → Prop), j + i = nS p → i + 1 ≤ m → MR V G N0 xo mo p pk → G fa = some (.inl (V.2.1 0, nS p, .inl g)) → (∀ l, l < nS p → g l = eN (fk (stT p.1) (if l < j then k + 1 else k) l)) →
    (∀ (G' : Gh) (g' : Nat → Int32), MR V G' N0 xo mo p pk → G' fa = some (.inl (V.2.1 0, nS p, .inl g')) → (∀ l, l < nS p → g' l = eN (fk (stT p.1) (k + 1) l)) → (∀ b, b ≠ fa → G' b = G b) → wH (k20 G' nx (some fa) (if mrB (stT p.1) k (nS p) then 1 else 0) (nI (k + 2))) Q) →
    wH (hL_X0_fars_29 V xo k20 m G nx (some fa) (if mrB (stT p.1) k j then 1 else 0) (nI (k + 1)) (nI j)) Q := by
  have h36 : nS p ≤ 36 := (sts_ok hok).2.2.2.1
  intro i
  induction i with
  | zero =>
    intro j m G nx g Q hj hm hM hG hg K
    obtain ⟨m, rfl⟩ := Nat.exists_eq_succ_of_ne_zero (show m ≠ 0 by omega)
    have : j = nS p := by omega
    subst this
    rw [hL_X0_fars_29]
    refine w_some (w_aln hG (w_pos (Int32.le_refl _) ?_))
    rw [nI_1]
    exact K G g hM hG (fun l hl => by rw [hg l hl, if_pos hl]) (fun _ _ => rfl)
  | succ i ih =>
    intro j m G nx g Q hj hm hM hG hg K
    obtain ⟨m, rfl⟩ := Nat.exists_eq_succ_of_ne_zero (show m ≠ 0 by omega)
    rw [hL_X0_fars_29]
    refine w_some (w_aln hG (w_neg (fun z => by have := (nI_leq (by omega) (by omega)).mp z; omega) ?_))
    refine far_state hV hok hfa (show j < nS p by omega) hk 5 0 V.2.2.2.2 G nx g _ Q rfl (by omega) hM hG (fun l hl _ => hg l hl) (by rw [hg j (by omega), if_neg (by omega)]) (fun s' hs' => absurd hs' (Nat.not_lt_zero _)) ?_
    intro G' g' k1 k2 k3 k4
    rw [← mrB_succ]
    exact ih (j + 1) m G' nx g' Q (by omega) (by omega) k1 k2 k3 (fun G2 g2 y1 y2 y3 y4 => K G2 g2 y1 y2 y3 (fun b hb => by rw [y4 b hb, k4 b hb]))
theorem far_rounds (hV : 1200 ≤ V.2.2.2.2) (hok : RsOk p.1) (hfa : N0 ≤ fa) : ∀ (i k m : Nat) (G : Gh) (nx : Nat) (g : Nat → Int32) (l2 : Int32), i + k = nS p + 1 → i + 2 ≤ m → MR V G N0 xo mo p pk → G fa = some (.inl (V.2.1 0, nS p, .inl g)) → (∀ l, l < nS p → g l = eN (fk (stT p.1) k l)) → (l2 = 1 ∧ k ≤ cntR (nS p) (rch (stT p.1) k) ∨ l2 = 0 ∧ ∀ j, j < nS p → rch (stT p.1) (k + 1) j = rch (stT p.1) k j) →
    wH (hL_X0_fars_20 V xo m G nx (some fa) l2 (nI (k + 1))) (fun r G' c s => r = some fa ∧ c = 0 ∧ s = 0 ∧ (∃ g', G' fa = some (.inl (V.2.1 0, nS p, .inl g')) ∧ ∀ l, l < nS p → g' l = eN (dF (nS p) (stT p.1) l)) ∧ ∀ b, b ≠ fa → G' b = G b) := by
  have h36 : nS p ≤ 36 := (sts_ok hok).2.2.2.1
  have hlt := stT_ok p
  intro i
  induction i with
  | zero =>
    intro k m G nx g l2 hi hm hM hG hg hl
    obtain ⟨m, rfl⟩ := Nat.exists_eq_succ_of_ne_zero (show m ≠ 0 by omega)
    rcases hl with ⟨-, w⟩ | ⟨rfl, w⟩
    · have := cntR_le (n := nS p) (p := rch (stT p.1) k)
      omega
    · rw [hL_X0_fars_20]
      exact w_pos rfl (w_ret ⟨rfl, rfl, rfl, ⟨g, hG, fun l hl => by rw [hg l hl, fk_dF hlt hl (Or.inl w)]⟩, fun _ _ => rfl⟩)
  | succ i ih =>
    intro k m G nx g l2 hi hm hM hG hg hl
    obtain ⟨m, rfl⟩ := Nat.exists_eq_succ_of_ne_zero (show m ≠ 0 by omega)
    rcases hl with ⟨rfl, w⟩ | ⟨rfl, w⟩
    · rw [hL_X0_fars_20]
      refine w_neg (by decide) ?_
      have h0 : mrB (stT p.1) k 0 = false := rfl
      have := far_states (k20 := hL_X0_fars_20 V xo m) (k := k) hV hok hfa (by omega) (nS p) 0 V.2.2.2.2 G nx g (fun r G' c s => r = some fa ∧ c = 0 ∧ s = 0 ∧ (∃ g', G' fa = some (.inl (V.2.1 0, nS p, .inl g')) ∧ ∀ l, l < nS p → g' l = eN (dF (nS p) (stT p.1) l)) ∧ ∀ b, b ≠ fa → G' b = G b) (by omega) (by omega) hM hG (fun l hl => by rw [hg l hl, if_neg (by omega)]) ?_
      · rw [h0] at this; exact this
      · intro G' g' k1 k2 k3 k4
        refine w_mono (ih (k + 1) m G' nx g' _ (by omega) (by omega) k1 k2 k3 ?_) ?_
        · cases e : mrB (stT p.1) k (nS p) with
          | true =>
            refine Or.inl ⟨rfl, ?_⟩
            obtain ⟨j, j1, j2⟩ := List.any_eq_true.mp (show (List.range (nS p)).any _ = true from e)
            rw [Bool.and_eq_true, Bool.not_eq_true'] at j2
            have := cntR_lt (n := nS p) (p := rch (stT p.1) k) (q := rch (stT p.1) (k + 1)) (fun j _ => rch_mono) (List.mem_range.mp j1) j2.2 j2.1
            omega
          | false =>
            have st : ∀ j, j < nS p → rch (stT p.1) (k + 1) j = rch (stT p.1) k j := fun j hj => by
              cases e1 : rch (stT p.1) k j with
              | true => exact rch_mono e1
              | false =>
                cases e2 : rch (stT p.1) (k + 1) j with
                | false => rfl
                | true =>
                  have : mrB (stT p.1) k (nS p) = true := List.any_eq_true.mpr ⟨j, List.mem_range.mpr hj, by rw [e1, e2]; rfl⟩
                  rw [e] at this; cases this
            refine Or.inr ⟨rfl, fun j hj => ?_⟩
            rw [fk_fix hlt st (k + 2) (by omega) j hj, fk_fix hlt st (k + 1) (by omega) j hj]
        · rintro r G2 c s ⟨y1, y2, y3, y4, y5⟩
          exact ⟨y1, y2, y3, y4, fun b hb => by rw [y5 b hb, k4 b hb]⟩
    · rw [hL_X0_fars_20]
      exact w_pos rfl (w_ret ⟨rfl, rfl, rfl, ⟨g, hG, fun l hl => by rw [hg l hl, fk_dF hlt hl (Or.inl w)]⟩, fun _ _ => rfl⟩)
end X

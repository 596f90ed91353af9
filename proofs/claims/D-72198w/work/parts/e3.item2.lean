/-! PURE 9A: Reader.item, whole -/
def wRu : List Nat := [114, 117, 108, 101]
def wCh : List Nat := [99, 104, 97, 110, 99, 101]
def wSu : List Nat := [115, 117, 109, 115]
/-- what once holds -/
def OnS (fc fs : Bool) (ow : List Nat) : Prop := (fc, fs, ow) ∈ [(false, false, []), (true, false, wCh), (false, true, wSu), (true, true, wCh ++ wSu), (true, true, wSu ++ wCh)]
theorem OnS.facts {fc fs : Bool} {ow : List Nat} (h : OnS fc fs ow) : ow.length ≤ 10 ∧ ow.length ≠ 5 ∧ ctn ow wCh = fc ∧ ctn ow wSu = fs ∧ ctn ow wRu = false ∧ ctn ow [48] = false ∧ ctn ow [59] = false ∧ (fc = false → OnS true fs (ow ++ wCh) ∧ ow.length ≤ 4) ∧ (fs = false → OnS fc true (ow ++ wSu) ∧ ow.length ≤ 6) := by
  simp only [OnS, List.mem_cons, List.not_mem_nil, or_false, Prod.mk.injEq] at h
  rcases h with ⟨rfl, rfl, rfl⟩ | ⟨rfl, rfl, rfl⟩ | ⟨rfl, rfl, rfl⟩ | ⟨rfl, rfl, rfl⟩ | ⟨rfl, rfl, rfl⟩ <;> unfold OnS <;> decide
/-- an item is read -/
def pItem (l : List Nat) (fc fs : Bool) (p : Pn) (t : Tk) : Nat ⊕ ((Pn × Bool × Bool) × Tk) :=
  if t.2.1 = 3 then (match pRule l p.1 t with
    | .inl b => .inl b
    | .inr (rs, t') => .inr (((rs, p.2), fc, fs), t'))
  else if t.2.1 = 4 then (if fc then .inl t.1 else match mpC p (pCh l 5 [] t) with
    | .inl b => .inl b
    | .inr (p', t') => .inr ((p', true, fs), t'))
  else if t.2.1 = 5 then (if fs then .inl t.1 else match pSums l p t with
    | .inl b => .inl b
    | .inr (p', t') => .inr ((p', fc, true), t'))
  else .inl t.1
theorem pCh_ok (l : List Nat) : ∀ (n : Nat) (acc : List Nat) (t t' : Tk) (cs : List Nat), pCh l n acc t = .inr (cs, t') → cs.length = acc.length + n ∧ (n ≠ 0 → cs.sum = 10) := by
  intro n
  induction n with
  | zero =>
    intro acc t t' cs h
    simp only [pCh, Sum.inr.injEq, Prod.mk.injEq] at h
    rw [← h.1]
    exact ⟨rfl, fun w => absurd rfl w⟩
  | succ n ih =>
    intro acc t t' cs h
    unfold pCh at h
    by_cases c : (nuI (lexT l t.2.2.2) 0 10 && (decide (n ≠ 0) || decide (acc.sum + (lexT l t.2.2.2).2.2.1 = 10))) = false
    · rw [if_pos c] at h; cases h
    · rw [if_neg c] at h
      obtain ⟨h1, h2⟩ := ih _ _ _ _ h
      rw [List.length_append, List.length_singleton] at h1
      refine ⟨by omega, fun _ => ?_⟩
      by_cases cn : n = 0
      · subst cn
        simp only [pCh, Sum.inr.injEq, Prod.mk.injEq] at h
        rw [← h.1]
        simp only [Bool.not_eq_false, Bool.and_eq_true, Bool.or_eq_true, decide_eq_true_eq] at c
        rcases c.2 with w | w
        · exact absurd rfl w
        · simpa using w
      · exact h2 cn
/-- the Reader between two tokens -/
def RdS (V : HEn) (G : Gh) (nx ro so sd po it : Nat) (l : List Nat) (t : Tk) (fc fs : Bool) (p : Pn) : Prop := ∃ on od ow, RdF V G nx ro so sd po it on l t ∧ RPl V G nx sd po p ∧ PnOk p ∧ OnS fc fs ow ∧ Str V G on od ow False ∧ on < nx ∧ od < nx ∧ on ≠ so
/-- what item leaves -/
def ImQ (V : HEn) (G : Gh) (nx ro so sd po it : Nat) (l : List Nat) (R : Nat ⊕ ((Pn × Bool × Bool) × Tk)) : Unit ⊕ Nat → Gh → Nat → Nat → Prop := fun r G' c s => c ≤ 30 ∧ s ≤ 1200 ∧ (∀ b, b < ro → G' b = G b) ∧ (match R with
  | .inl b => FtQ nx b (rgt r) G' c
  | .inr ((p', fc', fs'), t3) => ((lexT l t3.2.2.2).2.1 = 6 ∧ FtQ nx (lexT l t3.2.2.2).1 (rgt r) G' c) ∨ ((lexT l t3.2.2.2).2.1 ≠ 6 ∧ r = .inl () ∧ RdS V G' (nx + c) ro so sd po it l (lexT l t3.2.2.2) fc' fs' p'))
section X
variable {V : HEn} {G G' : Gh} {nx nx' ro so sd po it on it' on' : Nat} {l : List Nat} {t : Tk} {p p' : Pn}
theorem RdF.cellW (h : RdF V G nx ro so sd po it on l t) : ∃ wo wd, G ro = some (rdc so po t.2.2.2 t.1 wo (tkN t) it on) ∧ Str V G wo wd (tkW t) True ∧ wo < nx ∧ wd < nx := by
  obtain ⟨⟨wo, wd, h1, h2, h3, h4, h5, h6, h7⟩, -⟩ := h
  exact ⟨wo, wd, h1, h3, h4, h5⟩
theorem item_17 {wo wd : Nat} {w : List Nat} {v : Int32} {Q : Unit ⊕ Nat → Gh → Nat → Nat → Prop} (hV : 1200 ≤ V.2.2.2.2) (hC : StC V G) (h1 : gC G ro 3 = true) (hW : Str V G wo wd w True) (hv : (w = wRu ∧ v = 0) ∨ (w = wCh ∧ v = 1) ∨ (w = wSu ∧ v = 2) ∨ ((w = [48] ∨ w = [59]) ∧ v = -1)) (K : wH (hB_X4_item_103 V ro G nx (some wo) v) Q) : wH (hB_X4_item_17 V ro G nx (some ro) 1 (some wo)) Q := by
  unfold hB_X4_item_17
  refine w_some (w_pos h1 (w_call0 (wants_yes (by decide)) (w_some (w_pos hW.gC (w_call0 (str_hashS hW) ?_)))))
  obtain ⟨k0, k2, k3, k4, k5⟩ := hsh_c
  rcases hv with ⟨rfl, rfl⟩ | ⟨rfl, rfl⟩ | ⟨rfl, rfl⟩ | ⟨hw, rfl⟩
  · obtain ⟨d, d1, d2, d3⟩ := hC 3 (by decide)
    refine w_neg (by rw [show hsh wRu = 3512060 from k3]; decide) (w_pos k3 (w_pos hW.gC (w_call0 (str_equals hV hW d3) ?_)))
    exact w_neg (by decide) K
  · obtain ⟨d, d1, d2, d3⟩ := hC 4 (by decide)
    refine w_pos k4 (w_pos hW.gC (w_call0 (str_equals hV hW d3) ?_))
    exact w_neg (by decide) K
  · obtain ⟨d, d1, d2, d3⟩ := hC 5 (by decide)
    refine w_neg (by rw [show hsh wSu = 3541896 from k5]; decide) (w_neg (by rw [show hsh wSu = 3541896 from k5]; decide) (w_pos k5 (w_pos hW.gC (w_call0 (str_equals hV hW d3) ?_))))
    exact w_neg (by decide) K
  · have hh : hsh w = 48 ∨ hsh w = 59 := by
      rcases hw with rfl | rfl
      · exact Or.inl (by decide +kernel)
      · exact Or.inr k2
    exact w_neg (by rcases hh with e | e <;> rw [e] <;> decide) (w_neg (by rcases hh with e | e <;> rw [e] <;> decide) (w_neg (by rcases hh with e | e <;> rw [e] <;> decide) K))
/-- the text what, behind the item's numbers -/
theorem what_k {t' : Tk} {wo wd : Nat} {w : List Nat} {n1 it1 on1 : Nat} (hF : RdF V G nx ro so sd po it on l t) (hF' : RdF V G' n1 ro so sd po it1 on1 l t') (hs : StK V G G' nx so) (hW : Str V G wo wd w True) (hwo : wo < nx) (hwd : wd < nx) (h5 : w.length ≠ 5) (hn : nx ≤ n1) : ∃ wd', Str V G' wo wd' w False ∧ wd' < n1 := by
  by_cases c : wo = so
  · subst c
    obtain ⟨⟨wo1, wd1, h1, h2, -⟩, -⟩ := hF
    obtain ⟨⟨wo2, wd2, h1', h2', -⟩, g1, g2, g3, g4, g5, -⟩ := hF'
    have : w = l := Str.inj (hW.any) (by
      have e := h2
      exact e)
    exact ⟨sd, by rw [this]; exact h2', g5⟩
  · exact ⟨wd, (hs wo wd w True hW hwo hwd c h5).any, by omega⟩
theorem item_f {fc fs : Bool} {wo : Nat} (hV : 1200 ≤ V.2.2.2.2) (h : RdS V G nx ro so sd po it l t fc fs p) (hwo : ∃ wd nu at_ bg on, G ro = some (rdc so po at_ bg wo nu it on) ∧ Str V G wo wd (tkW t) True ∧ wo < nx ∧ wd < nx) (hne : t.2.1 = 1 ∨ t.2.1 = 2 ∨ t.2.1 = 3 ∨ t.2.1 = 4 ∨ t.2.1 = 5) : wH (hF_X4_item V G nx ro (some wo)) (ImQ V G nx ro so sd po it l (pItem l fc fs p t)) := by
  obtain ⟨on, od, ow, hF, hP, hok, hOn, hO, hon, hod, hos⟩ := h
  obtain ⟨wd, nu, at_, bg, on2, -, hW, hwo, hwd⟩ := hwo
  obtain ⟨wo', h1⟩ := hF.cell
  obtain ⟨-, g1, g2, g3, g4, g5, g6, g7, g8, g9, g10⟩ := id hF
  obtain ⟨f1, f2, f3, f4, f5, f6, f7, f8, f9⟩ := hOn.facts
  have hlW : 0 < (tkW t).length ∧ (tkW t).length ≤ 6 := by
    unfold tkW
    rcases hne with e | e | e | e | e <;> rw [e] <;> decide
  -- the word is there already, or it is no item's word
  have bad : ∀ {x : HO (Unit ⊕ Nat)}, x = hF_X4_wants V G nx ro 0 → pItem l fc fs p t = .inl t.1 → wH x (fun r G' c s => (∃ q, r = .inr q) ∧ ImQ V G nx ro so sd po it l (pItem l fc fs p t) r G' c s) := by
    intro x hx hp
    rw [hx]
    refine w_mono (wants_no h1 (by omega) (by omega)) ?_
    rintro r G1 c s ⟨rfl, z2, z3, z4, z5⟩
    refine ⟨⟨_, rfl⟩, by omega, by omega, fun b hb => z5 b (by omega), ?_⟩
    rw [hp]
    exact ⟨nx, rfl, Nat.le_refl _, by omega, z4⟩
  unfold hF_X4_item
  refine w_xR h1 rfl rfl (w_some (w_pos hO.gC (w_call0 (str_contains hV hO hW (by omega) hlW.1 (by omega)) ?_)))
  by_cases ct : ctn ow (tkW t) = true
  · have hp : pItem l fc fs p t = .inl t.1 := by
      unfold pItem
      rcases hne with e | e | e | e | e
      · rw [show tkW t = [48] by unfold tkW; rw [e]; rfl, f6] at ct; cases ct
      · rw [show tkW t = [59] by unfold tkW; rw [e]; rfl, f7] at ct; cases ct
      · rw [show tkW t = wRu by unfold tkW; rw [e]; rfl, f5] at ct; cases ct
      · rw [show tkW t = wCh by unfold tkW; rw [e]; rfl, f3] at ct
        rw [e, ct]; rfl
      · rw [show tkW t = wSu by unfold tkW; rw [e]; rfl, f4] at ct
        rw [e, ct]; rfl
    rw [if_pos ct]
    refine w_neg (by decide) ?_
    unfold hB_X4_item_17
    refine w_some (w_pos (gC_at h1) (xw (bad rfl hp) ?_ ?_))
    · rintro r G1 c s ⟨⟨q, w⟩, -⟩
      cases w
    · rintro q G1 c s ⟨-, hq⟩
      exact hq
  rw [if_neg ct]
  refine w_pos rfl ?_
  by_cases e3 : t.2.1 = 3
  · -- a rule
    refine item_17 (v := 0) hV g1 (gC_at h1) hW (Or.inl ⟨by unfold tkW; rw [e3]; rfl, rfl⟩) ?_
    unfold hB_X4_item_103
    refine w_pos rfl (w_pos (gC_at h1) (xw (rule_f hV hF hP hok.1) ?_ ?_))
    · rintro r G1 c s ⟨z1, z2, z3, z4⟩
      unfold hB_X4_item_235
      refine w_ret ⟨by omega, by omega, z3, ?_⟩
      unfold pItem
      rw [if_pos e3]
      cases eR : pRule l p.1 t with
      | inl b => rw [eR] at z4; obtain ⟨q, w, -⟩ := z4; cases w
      | inr y =>
        obtain ⟨rs, t3⟩ := y
        rw [eR] at z4
        rcases z4 with ⟨-, q, w, -⟩ | ⟨w1, -, w3, w4, w5, w6⟩
        · cases w
        · exact Or.inr ⟨w1, rfl, on, od, ow, w3, w4, ⟨w5, hok.2⟩, hOn, w6 _ _ _ _ hO hon hod hos f2, by omega, by omega, hos⟩
    · rintro q G1 c s ⟨z1, z2, z3, z4⟩
      refine ⟨by omega, by omega, z3, ?_⟩
      unfold pItem
      rw [if_pos e3]
      cases eR : pRule l p.1 t with
      | inl b => rw [eR] at z4; exact z4
      | inr y =>
        obtain ⟨rs, t3⟩ := y
        rw [eR] at z4
        rcases z4 with w | ⟨-, w, -⟩
        · exact Or.inl w
        · cases w
  -- what follows chance and sums
  have tail : ∀ (R : Nat ⊕ (Pn × Tk)) (fc' fs' : Bool) (G1 : Gh) (c s : Nat), ItQ V G nx ro so sd po it on l 20 R (.inl ()) G1 c s → OnS fc' fs' (ow ++ tkW t) → ow.length + (tkW t).length ≤ 16 → (∀ p' t3, R = .inr (p', t3) → PnOk p' ∧ pItem l fc fs p t = .inr ((p', fc', fs'), t3)) → wH (onE V ro G1 (nx + c) (some wo)) (fun r G' c' s' => ImQ V G nx ro so sd po it l (pItem l fc fs p t) r G' (c + c') (s + s')) := by
    intro R fc' fs' G1 c s hq hon' hl16 hR
    obtain ⟨p', t3, rfl, w1, w3, w4, w5⟩ := hq.ok
    obtain ⟨z1, z2, z3, -⟩ := id hq
    obtain ⟨hpk, hpi⟩ := hR _ _ rfl
    obtain ⟨wd', hW', hwd'⟩ := what_k hF w3 w5 hW hwo hwd (tkW_len t) (Nat.le_add_right _ c)
    refine w_mono (onE_at w3 (w5 _ _ _ _ hO hon hod hos f2) hW' hl16 (by omega) (by omega) (by omega) hwd') ?_
    rintro r G2 c2 s2 ⟨rfl, rfl, y3, y4, y5, y6⟩
    refine ⟨by omega, by omega, fun b hb => by rw [y4 b (by omega) (by omega)]; exact z3 b hb, ?_⟩
    rw [hpi]
    refine Or.inr ⟨w1, rfl, nx + c + 2, nx + c + 3, ow ++ tkW t, by rw [show nx + (c + 4) = nx + c + 4 by omega]; exact y5, ?_, hpk, hon', y6, by omega, by omega, by omega⟩
    exact w4.keep (by omega) (fun b b1 b2 => y4 b b1 (by omega)) (by omega)
  have fail : ∀ (R : Nat ⊕ (Pn × Tk)) (fc' fs' : Bool) (G1 : Gh) (q c s : Nat), ItQ V G nx ro so sd po it on l 20 R (.inr q) G1 c s → (∀ b, R = .inl b → pItem l fc fs p t = .inl b) → (∀ p' t3, R = .inr (p', t3) → pItem l fc fs p t = .inr ((p', fc', fs'), t3)) → ImQ V G nx ro so sd po it l (pItem l fc fs p t) (.inr q) G1 c s := by
    intro R fc' fs' G1 q c s hq h1 h2
    obtain ⟨z1, z2, z3, -⟩ := id hq
    refine ⟨by omega, by omega, z3, ?_⟩
    rcases hq.no with ⟨b, rfl, w⟩ | ⟨p', t3, rfl, w1, w2⟩
    · rw [h1 _ rfl]; exact w
    · rw [h2 _ _ rfl]; exact Or.inl ⟨w1, w2⟩
  by_cases e4 : t.2.1 = 4
  · have eW : tkW t = wCh := by unfold tkW; rw [e4]; rfl
    have hfc : fc = false := by
      rw [eW, f3] at ct
      simpa using ct
    have hp : pItem l fc fs p t = match mpC p (pCh l 5 [] t) with
        | .inl b => .inl b
        | .inr (p', t') => .inr ((p', true, fs), t') := by
      unfold pItem
      rw [if_neg e3, if_pos e4, hfc]; rfl
    refine item_17 (v := 1) hV g1 (gC_at h1) hW (Or.inr (Or.inl ⟨eW, rfl⟩)) ?_
    unfold hB_X4_item_103
    refine w_neg (by decide) (w_pos rfl (w_pos (gC_at h1) (xw (chance_f hV hF hP) ?_ ?_)))
    · rintro r G1 c s hq
      exact tail _ true fs G1 c s hq (by rw [eW]; exact (f8 hfc).1) (by have := (f8 hfc).2; omega) (fun p' t3 e => ⟨by
        cases eR : pCh l 5 [] t with
        | inl b => rw [eR] at e; cases e
        | inr y =>
          obtain ⟨cs, t'⟩ := y
          rw [eR] at e
          cases e
          obtain ⟨o1, o2⟩ := pCh_ok l 5 [] t _ _ eR
          exact ⟨hok.1, by simpa using o1, o2 (by decide), hok.2.2.2⟩, by rw [hp, e]⟩)
    · rintro q G1 c s hq
      exact fail _ true fs G1 q c s hq (fun b e => by rw [hp, e]) (fun p' t3 e => by rw [hp, e])
  by_cases e5 : t.2.1 = 5
  · have eW : tkW t = wSu := by unfold tkW; rw [e5]; rfl
    have hfs : fs = false := by
      rw [eW, f4] at ct
      simpa using ct
    have hp : pItem l fc fs p t = match pSums l p t with
        | .inl b => .inl b
        | .inr (p', t') => .inr ((p', fc, true), t') := by
      unfold pItem
      rw [if_neg e3, if_neg e4, if_pos e5, hfs]; rfl
    refine item_17 (v := 2) hV g1 (gC_at h1) hW (Or.inr (Or.inr (Or.inl ⟨eW, rfl⟩))) ?_
    unfold hB_X4_item_103
    refine w_neg (by decide) (w_neg (by decide) (w_pos rfl ?_))
    refine sums_k (k := fun G N => onE V ro G N (some wo)) (p := p) hV hF hP ?_ ?_
    · rintro q G1 c s hq
      exact fail _ fc true G1 q c s hq (fun b e => by rw [hp, e]) (fun p' t3 e => by rw [hp, e])
    · rintro G1 c s hq
      exact tail _ fc true G1 c s hq (by rw [eW]; exact (f9 hfs).1) (by have := (f9 hfs).2; omega) (fun p' t3 e => ⟨by
        unfold pSums at e
        by_cases c1 : nuI (lexT l t.2.2.2) 0 2 = false
        · rw [if_pos c1] at e; cases e
        rw [if_neg c1] at e
        by_cases c2 : nuI (lexT l (lexT l t.2.2.2).2.2.2) 1 9 = false
        · rw [if_pos c2] at e; cases e
        rw [if_neg c2] at e
        cases e
        have u1 := of_decide_eq_true (Bool.not_eq_false _ ▸ c1)
        have u2 := of_decide_eq_true (Bool.not_eq_false _ ▸ c2)
        exact ⟨hok.1, hok.2.1, hok.2.2.1, u1.2.2, u2.2.1, u2.2.2⟩, by rw [hp, e]⟩)
  -- no item's word
  have hp : pItem l fc fs p t = .inl t.1 := by
    unfold pItem
    rw [if_neg e3, if_neg e4, if_neg e5]
  refine item_17 (v := -1) hV g1 (gC_at h1) hW (Or.inr (Or.inr (Or.inr ⟨by
    rcases hne with e | e | e | e | e
    · exact Or.inl (by unfold tkW; rw [e]; rfl)
    · exact Or.inr (by unfold tkW; rw [e]; rfl)
    · exact absurd e e3
    · exact absurd e e4
    · exact absurd e e5, rfl⟩))) ?_
  unfold hB_X4_item_103
  refine w_neg (by decide) (w_neg (by decide) (w_neg (by decide) (w_pos (gC_at h1) (xw (bad rfl hp) ?_ ?_))))
  · rintro r G1 c s ⟨⟨q, w⟩, -⟩
    cases w
  · rintro q G1 c s ⟨-, hq⟩
    exact hq
end X

/-! PURE 9B: Reader.all -/
/-- the items that may still come -/
def msI (p : Pn) (fc fs : Bool) : Nat := (3 - p.1.length) + (if fc then 0 else 1) + (if fs then 0 else 1)
/-- a plan is read: at most n - 1 items -/
def pAll (l : List Nat) : Nat → Bool → Bool → Pn → Nat → Tk → Nat ⊕ (Pn × Nat)
  | 0, _, _, _, _, _ => .inl 0
  | n + 1, fc, fs, p, it, t => if t.2.1 = 6 then .inl t.1 else if t.2.1 = 0 then .inr (p, it) else match pItem l fc fs p t with
    | .inl b => .inl b
    | .inr ((p', fc', fs'), t3) => if (lexT l t3.2.2.2).2.1 = 2 then pAll l n fc' fs' p' (it + 1) (lexT l (lexT l t3.2.2.2).2.2.2) else .inl (lexT l t3.2.2.2).1
theorem lexT_sort (l : List Nat) (a : Nat) : (lexT l a).2.1 ≤ 6 := by
  unfold lexT lexB
  generalize skW isSp l a = b
  have hw : ∀ w, wdS w ≤ 6 := fun w => by
    unfold wdS
    by_cases c1 : w = [114, 117, 108, 101]
    · rw [if_pos c1]; omega
    rw [if_neg c1]
    by_cases c2 : w = [99, 104, 97, 110, 99, 101]
    · rw [if_pos c2]; omega
    rw [if_neg c2]
    by_cases c3 : w = [115, 117, 109, 115]
    · rw [if_pos c3]; omega
    rw [if_neg c3]; omega
  cases l[b]? with
  | none => exact Nat.zero_le _
  | some c =>
    show (if isDg c = true then _ else _ : Tk).2.1 ≤ 6
    by_cases d1 : isDg c = true
    · rw [if_pos d1]
      by_cases d2 : ((l.drop b).takeWhile isDg).foldl nvF 0 ≤ 99 ∧ (c ≠ 48 ∨ skW isDg l b = b + 1)
      · rw [if_pos d2]; show 1 ≤ 6; omega
      · rw [if_neg d2]; exact Nat.le_refl 6
    · rw [if_neg d1]
      by_cases d2 : isLe c = true
      · rw [if_pos d2]; exact hw _
      · rw [if_neg d2]
        show (if c = 59 then 2 else 6) ≤ 6
        by_cases d3 : c = 59
        · rw [if_pos d3]; omega
        · rw [if_neg d3]; omega
theorem pItem_ms {l : List Nat} {fc fs fc' fs' : Bool} {p p' : Pn} {t t3 : Tk} (hl : p.1.length ≤ 3) (h : pItem l fc fs p t = .inr ((p', fc', fs'), t3)) : msI p' fc' fs' < msI p fc fs := by
  unfold pItem at h
  by_cases e3 : t.2.1 = 3
  · rw [if_pos e3] at h
    cases eR : pRule l p.1 t with
    | inl b => rw [eR] at h; cases h
    | inr y =>
      obtain ⟨rs, t'⟩ := y
      rw [eR] at h
      cases h
      unfold pRule at eR
      by_cases c3 : p.1.length = 3
      · rw [if_pos c3] at eR; cases eR
      rw [if_neg c3] at eR
      simp only at eR
      by_cases c4 : nuI (lexT l t.2.2.2) 1 4 = false
      · rw [if_pos c4] at eR; cases eR
      rw [if_neg c4] at eR
      by_cases c5 : (nuI (lexT l (lexT l t.2.2.2).2.2.2) (lexT l t.2.2.2).2.2.1 4 && decide (bks p.1 + (lexT l (lexT l t.2.2.2).2.2.2).2.2.1 - 1 ≤ 6)) = false
      · rw [if_pos c5] at eR; cases eR
      rw [if_neg c5] at eR
      by_cases c6 : nuI (lexT l (lexT l (lexT l t.2.2.2).2.2.2).2.2.2) 1 31 = false
      · rw [if_pos c6] at eR; cases eR
      rw [if_neg c6] at eR
      cases eR
      unfold msI
      simp only [List.length_append, List.length_singleton]
      omega
  rw [if_neg e3] at h
  by_cases e4 : t.2.1 = 4
  · rw [if_pos e4] at h
    cases fc with
    | true => cases h
    | false =>
      simp only [Bool.false_eq_true, if_false] at h
      cases eR : pCh l 5 [] t with
      | inl b => rw [eR] at h; cases h
      | inr y =>
        rw [eR] at h
        cases h
        unfold msI
        simp
  rw [if_neg e4] at h
  by_cases e5 : t.2.1 = 5
  · rw [if_pos e5] at h
    cases fs with
    | true => cases h
    | false =>
      simp only [Bool.false_eq_true, if_false] at h
      unfold pSums at h
      by_cases c1 : nuI (lexT l t.2.2.2) 0 2 = false
      · rw [if_pos c1] at h; cases h
      rw [if_neg c1] at h
      by_cases c2 : nuI (lexT l (lexT l t.2.2.2).2.2.2) 1 9 = false
      · rw [if_pos c2] at h; cases h
      rw [if_neg c2] at h
      cases h
      unfold msI
      simp
  rw [if_neg e5] at h
  cases h
/-- what all leaves -/
def AlQ (V : HEn) (G : Gh) (nx ro so sd po : Nat) (m : Nat) (R : Nat ⊕ (Pn × Nat)) : Int32 ⊕ Nat → Gh → Nat → Nat → Prop := fun r G' c s => c ≤ 40 * m ∧ s ≤ 1500 * m ∧ (∀ b, b < ro → G' b = G b) ∧ (match R with
  | .inl b => FtQ nx b (rgt r) G' c
  | .inr (p', it') => r = .inl (nI it') ∧ RPl V G' (nx + c) sd po p' ∧ PnOk p' ∧ ∃ at_ bg wo nu on, G' ro = some (rdc so po at_ bg wo nu it' on))
section X
variable {V : HEn} {G G' : Gh} {nx nx' ro so sd po it on it' on' : Nat} {l : List Nat} {t : Tk} {p p' : Pn}
theorem tkW_semi {t : Tk} : tkW t = [59] ↔ t.2.1 = 2 := by
  unfold tkW
  constructor
  · intro h
    by_cases c1 : t.2.1 = 1
    · rw [if_pos c1] at h; cases h
    rw [if_neg c1] at h
    by_cases c2 : t.2.1 = 2
    · exact c2
    rw [if_neg c2] at h
    by_cases c3 : t.2.1 = 3
    · rw [if_pos c3] at h; cases h
    rw [if_neg c3] at h
    by_cases c4 : t.2.1 = 4
    · rw [if_pos c4] at h; cases h
    rw [if_neg c4] at h
    by_cases c5 : t.2.1 = 5
    · rw [if_pos c5] at h; cases h
    rw [if_neg c5] at h
    cases h
  · intro h
    rw [h]; rfl
theorem all_l (hV : 1200 ≤ V.2.2.2.2) : ∀ (m fu : Nat) (G : Gh) (nx : Nat) (t : Tk) (it : Nat) (fc fs : Bool) (p : Pn), RdS V G nx ro so sd po it l t fc fs p → t.2.1 ≤ 6 → msI p fc fs ≤ m → m + 2 ≤ fu → wH (hL_X4_all_4 V ro fu G nx) (AlQ V G nx ro so sd po (m + 1) (pAll l (m + 1) fc fs p it t)) := by
  intro m
  -- one turn, the rest given
  have turn : ∀ m, (∀ m', m' + 1 = m → ∀ (fu : Nat) (G : Gh) (nx : Nat) (t : Tk) (it : Nat) (fc fs : Bool) (p : Pn), RdS V G nx ro so sd po it l t fc fs p → t.2.1 ≤ 6 → msI p fc fs ≤ m' → m' + 2 ≤ fu → wH (hL_X4_all_4 V ro fu G nx) (AlQ V G nx ro so sd po (m' + 1) (pAll l (m' + 1) fc fs p it t))) → ∀ (fu : Nat) (G : Gh) (nx : Nat) (t : Tk) (it : Nat) (fc fs : Bool) (p : Pn), RdS V G nx ro so sd po it l t fc fs p → t.2.1 ≤ 6 → msI p fc fs ≤ m → m + 2 ≤ fu → wH (hL_X4_all_4 V ro fu G nx) (AlQ V G nx ro so sd po (m + 1) (pAll l (m + 1) fc fs p it t)) := by
    intro m ih fu G nx t it fc fs p hS ht6 hms hfu
    obtain ⟨fu, rfl⟩ : ∃ k, fu = k + 1 := ⟨fu - 1, by omega⟩
    obtain ⟨on, od, ow, hF, hP, hok, hOn, hO, hon, hod, hos⟩ := id hS
    obtain ⟨wo, wd, h1, hW, hwo, hwd⟩ := hF.cellW
    obtain ⟨-, g1, g2, g3, g4, g5, g6, g7, g8, g9, g10⟩ := id hF
    unfold hL_X4_all_4
    refine w_xR h1 rfl rfl (w_some (w_pos hW.gC (w_call0 (str_empty hW) ?_)))
    by_cases c0 : t.2.1 = 0
    · -- the end
      rw [if_pos (show tkW t = [] by unfold tkW; rw [c0]; rfl)]
      refine w_neg (by decide) (w_xI h1 rfl rfl (w_ret ⟨by omega, by omega, fun _ _ => rfl, ?_⟩))
      rw [show pAll l (m + 1) fc fs p it t = .inr (p, it) by unfold pAll; rw [if_neg g10, if_pos c0]]
      exact ⟨rfl, hP, hok, _, _, _, _, _, h1⟩
    have hne : t.2.1 = 1 ∨ t.2.1 = 2 ∨ t.2.1 = 3 ∨ t.2.1 = 4 ∨ t.2.1 = 5 := by omega
    have hwn : tkW t ≠ [] := by
      unfold tkW
      rcases hne with e | e | e | e | e <;> rw [e] <;> decide
    have eA : pAll l (m + 1) fc fs p it t = match pItem l fc fs p t with
      | .inl b => .inl b
      | .inr ((p', fc', fs'), t3) => if (lexT l t3.2.2.2).2.1 = 2 then pAll l m fc' fs' p' (it + 1) (lexT l (lexT l t3.2.2.2).2.2.2) else .inl (lexT l t3.2.2.2).1 := by
      show (if t.2.1 = 6 then _ else if t.2.1 = 0 then _ else _) = _
      rw [if_neg g10, if_neg c0]
    rw [if_neg hwn]
    refine w_pos rfl (w_xR h1 rfl rfl (w_pos (gC_at h1) (xw (item_f hV hS ⟨wd, _, _, _, _, h1, hW, hwo, hwd⟩ hne) ?_ ?_)))
    case refine_2 =>
      rintro q G1 c s ⟨z1, z2, z3, z4⟩
      refine ⟨by omega, by omega, z3, ?_⟩
      rw [eA]
      cases eR : pItem l fc fs p t with
      | inl b => rw [eR] at z4; exact z4
      | inr y =>
        obtain ⟨⟨p', fc', fs'⟩, t3⟩ := y
        rw [eR] at z4
        rcases z4 with ⟨w1, w2⟩ | ⟨-, w, -⟩
        · simp only [if_neg (show ¬ (lexT l t3.2.2.2).2.1 = 2 by omega)]
          exact w2
        · cases w
    rintro r G1 c1 s1 ⟨z1, z2, z3, z4⟩
    cases eR : pItem l fc fs p t with
    | inl b => rw [eR] at z4; obtain ⟨q, w, -⟩ := z4; cases w
    | inr y =>
    obtain ⟨⟨p', fc', fs'⟩, t3⟩ := y
    rw [eR] at z4 eA
    rcases z4 with ⟨-, q, w, -⟩ | ⟨w1, -, hS1⟩
    · cases w
    have hms' := pItem_ms (by obtain ⟨⟨-, x, -⟩, -⟩ := hok; exact x) eR
    simp only at eA
    have ht4 := lexT_sort l t3.2.2.2
    generalize lexT l t3.2.2.2 = t4 at *
    obtain ⟨on1, od1, ow1, hF1, hP1, hok1, hOn1, hO1, hon1, hod1, hos1⟩ := id hS1
    obtain ⟨wo1, wd1, h11, hW1, hwo1, hwd1⟩ := hF1.cellW
    obtain ⟨-, gg1, -⟩ := id hF1
    obtain ⟨d, d1, d2, d3⟩ := gg1 2 (by decide)
    refine w_xR h11 rfl rfl (w_some (w_pos hW1.gC (w_call0 (str_equals hV hW1 d3) (w_pos (gC_at h11) ?_))))
    by_cases c2 : t4.2.1 = 2
    case neg =>
      rw [if_neg (show ¬ tkW t4 = stL[2] from fun e => c2 (tkW_semi.mp e))]
      refine xw (wants_no h11 (by omega) (by omega)) ?_ ?_
      · rintro r G4 c s ⟨q1, -⟩
        cases q1
      · rintro q G4 c s ⟨y1, y2, y3, y4, y5⟩
        cases y1
        refine ⟨by omega, by omega, fun b hb => by rw [y5 b (by omega)]; exact z3 b hb, ?_⟩
        rw [eA, if_neg c2]
        exact ⟨nx + c1, rfl, by omega, by omega, y4⟩
    rw [if_pos (show tkW t4 = stL[2] from tkW_semi.mpr c2)]
    rw [if_pos c2] at eA
    refine w_call0 (wants_yes (by decide)) (w_xI h11 rfl rfl (w_xF (fs' := [va_rf (some so), va_rf (some po), .int (nI t4.2.2.2), .int (nI t4.1), va_rf (some wo1), .int (tkN t4), .int (nI (it + 1)), va_rf (some on1)]) h11 rfl (Nat.le_of_ble_eq_true rfl) (by omega) (by rw [nI_succ]; rfl) ?_))
    generalize hG2 : gset G1 ro _ = G2
    have e2 : ∀ b, b ≠ ro → G2 b = G1 b := fun b hb => by rw [← hG2]; exact gset_ne _ _ hb
    have hF2 : RdF V G2 (nx + c1) ro so sd po (it + 1) on1 l t4 := hF1.reset (Nat.le_refl _) (fun wo2 e => by
      rw [h11] at e
      have : wo1 = wo2 := by
        simp only [Option.some.injEq, Sum.inr.injEq, Prod.mk.injEq, List.cons.injEq, va_rf, Value.ref.injEq] at e
        first | exact e.2.2.2.2.2.1 | simp_all
      rw [← hG2, gset_eq, ← this]) (fun b _ hb => e2 b hb)
    clear hG2
    obtain ⟨wo2, h12⟩ := hF2.cell
    refine w_pos (gC_at h12) (xw (next_f hV hF2) ?_ ?_)
    · rintro r G3 c3 s3 ⟨q1, q2, q3, q4⟩
      rcases q4 with ⟨v1, -, hF3⟩ | ⟨-, q, v2, -⟩
      case inr => cases v2
      have ht5 := lexT_sort l t4.2.2.2
      generalize lexT l t4.2.2.2 = t5 at *
      have hone := hO1.ne_obj h11 (by decide)
      have hS3 : RdS V G3 (nx + c1 + c3) ro so sd po (it + 1) l t5 fc' fs' p' := ⟨on1, od1, ow1, hF3, (hP1.keep (G' := G2) (Nat.le_refl _) (fun b b1 b2 => e2 b (by omega)) (by omega)).keep (by omega) (fun b b1 b2 => q3 b b1 (by omega) (by omega)) (by omega), hok1, hOn1, hF2.stk q3 _ _ _ _ (hO1.keep (e2 on1 hone.1.symm) (e2 od1 hone.2.symm)) hon1 hod1 hos1 hOn1.facts.2.1, by omega, by omega, hos1⟩
      obtain ⟨m, rfl⟩ : ∃ k, m = k + 1 := ⟨m - 1, by omega⟩
      refine w_mono (ih m rfl fu G3 (nx + c1 + c3) t5 (it + 1) fc' fs' p' hS3 ht5 (by omega) (by omega)) ?_
      rintro r G' c s ⟨k1, k2, k3, k4⟩
      refine ⟨by omega, by omega, fun b hb => by rw [k3 b hb, q3 b (by omega) (by omega) (by omega), e2 b (by omega)]; exact z3 b hb, ?_⟩
      rw [eA]
      cases eR' : pAll l (m + 1) fc' fs' p' (it + 1) t5 with
      | inl b => rw [eR'] at k4; exact FtQ.of k4 (by omega) (by omega)
      | inr y =>
        obtain ⟨p2, it2⟩ := y
        rw [eR'] at k4
        obtain ⟨j1, j2, j3⟩ := k4
        exact ⟨j1, by rw [show nx + (c1 + (c3 + c)) = nx + c1 + c3 + c by omega]; exact j2, j3⟩
    · rintro q G3 c3 s3 ⟨q1, q2, q3, q4⟩
      rcases q4 with ⟨-, v2, -⟩ | ⟨v1, v2⟩
      · cases v2
      · refine ⟨by omega, by omega, fun b hb => by rw [q3 b (by omega) (by omega) (by omega), e2 b (by omega)]; exact z3 b hb, ?_⟩
        obtain ⟨m, rfl⟩ : ∃ k, m = k + 1 := ⟨m - 1, by omega⟩
        rw [eA, show pAll l (m + 1) fc' fs' p' (it + 1) (lexT l t4.2.2.2) = .inl (lexT l t4.2.2.2).1 by unfold pAll; rw [if_pos v1]]
        exact v2.of (by omega) (by omega)
  induction m with
  | zero => exact turn 0 (fun m' e => by omega)
  | succ m ih => exact turn (m + 1) (fun m' e => by cases e; exact ih)
theorem all_f (hV : 1200 ≤ V.2.2.2.2) {t0 : Tk} (h : RdS V G nx ro so sd po it l t0 false false p) (ht : t0.2.2.2 = 0) (hr : p.1 = []) : wH (hF_X4_all V G nx ro) (AlQ V G nx ro so sd po 7 (pAll l 6 false false p it (lexT l 0))) := by
  obtain ⟨on, od, ow, hF, hP, hok, hOn, hO, hon, hod, hos⟩ := id h
  obtain ⟨-, g1, g2, g3, g4, g5, g6, g7, g8, g9, g10⟩ := id hF
  obtain ⟨wo, h1⟩ := hF.cell
  unfold hF_X4_all
  refine w_pos (gC_at h1) (xw (next_f hV hF) ?_ ?_)
  · rintro r G3 c3 s3 ⟨q1, q2, q3, q4⟩
    rw [ht] at q4
    rcases q4 with ⟨v1, -, hF3⟩ | ⟨-, q, v2, -⟩
    case inr => cases v2
    have hS3 : RdS V G3 (nx + c3) ro so sd po it l (lexT l 0) false false p := ⟨on, od, ow, hF3, hP.keep (by omega) (fun b b1 b2 => q3 b b1 (by omega) (by omega)) (by omega), hok, hOn, hF.stk q3 _ _ _ _ hO hon hod hos hOn.facts.2.1, by omega, by omega, hos⟩
    refine w_mono (all_l hV 5 V.2.2.2.2 G3 (nx + c3) (lexT l 0) it false false p hS3 (lexT_sort l 0) (by unfold msI; rw [hr]; decide) (by omega)) ?_
    rintro r G' c s ⟨k1, k2, k3, k4⟩
    refine ⟨by omega, by omega, fun b hb => by rw [k3 b hb]; exact q3 b (by omega) (by omega) (by omega), ?_⟩
    cases eR' : pAll l 6 false false p it (lexT l 0) with
    | inl b => rw [eR'] at k4; exact FtQ.of k4 (by omega) (by omega)
    | inr y =>
      obtain ⟨p2, it2⟩ := y
      rw [eR'] at k4
      obtain ⟨j1, j2, j3⟩ := k4
      exact ⟨j1, by rw [show nx + (c3 + c) = nx + c3 + c by omega]; exact j2, j3⟩
  · rintro q G3 c3 s3 ⟨q1, q2, q3, q4⟩
    rw [ht] at q4
    rcases q4 with ⟨-, v2, -⟩ | ⟨v1, v2⟩
    · cases v2
    · refine ⟨by omega, by omega, fun b hb => q3 b (by omega) (by omega) (by omega), ?_⟩
      rw [show pAll l 6 false false p it (lexT l 0) = .inl (lexT l 0).1 by unfold pAll; rw [if_pos v1]]
      exact v2.of (by omega) (by omega)
end X

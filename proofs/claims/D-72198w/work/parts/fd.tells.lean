/-! PURE FD: the model's tells -/
theorem bks_app (rs : List Ru) (r : Ru) : bks (rs ++ [r]) = bks rs + (r.2.1 - 1) := by
  induction rs with
  | nil => show (r.2.1 - 1) + 0 = 0 + (r.2.1 - 1); omega
  | cons a t ih =>
    show (a.2.1 - 1) + bks (t ++ [r]) = (a.2.1 - 1) + bks t + (r.2.1 - 1)
    rw [ih]; omega
theorem pItem_rs {l : List Nat} {fc fs fc' fs' : Bool} {p p' : Pn} {t t3 : Tk} (hok : RsOk p.1) (h : pItem l fc fs p t = .inr ((p', fc', fs'), t3)) : RsOk p'.1 := by
  unfold pItem at h
  by_cases e3 : t.2.1 = 3
  · rw [if_pos e3] at h
    cases eR : pRule l p.1 t with
    | inl b => rw [eR] at h; cases h
    | inr y =>
      obtain ⟨rs, t'⟩ := y
      rw [eR] at h
      cases h
      unfold pRule at eR
      by_cases c3 : p.1.length = 3
      · rw [if_pos c3] at eR; cases eR
      rw [if_neg c3] at eR
      simp only at eR
      generalize lexT l t.2.2.2 = t1 at *
      generalize lexT l t1.2.2.2 = t2 at *
      generalize lexT l t2.2.2.2 = t4 at *
      by_cases c4 : nuI t1 1 4 = false
      · rw [if_pos c4] at eR; cases eR
      rw [if_neg c4] at eR
      by_cases c5 : (nuI t2 t1.2.2.1 4 && decide (bks p.1 + t2.2.2.1 - 1 ≤ 6)) = false
      · rw [if_pos c5] at eR; cases eR
      rw [if_neg c5] at eR
      by_cases c6 : nuI t4 1 31 = false
      · rw [if_pos c6] at eR; cases eR
      rw [if_neg c6] at eR
      cases eR
      simp only [Bool.not_eq_false, nuI, Bool.and_eq_true, decide_eq_true_eq] at c4 c5 c6
      obtain ⟨o1, o2, o3⟩ := hok
      refine ⟨fun r hr => ?_, by simp; omega, by rw [bks_app]; show bks p.1 + (t2.2.2.1 - 1) ≤ 6; omega⟩
      rcases List.mem_append.mp hr with w | w
      · exact o1 r w
      · rw [List.mem_singleton.mp w]
        unfold RuOk
        simp only
        omega
  rw [if_neg e3] at h
  by_cases e4 : t.2.1 = 4
  · rw [if_pos e4] at h
    cases fc with
    | true => cases h
    | false =>
      simp only [Bool.false_eq_true, if_false] at h
      cases eR : pCh l 5 [] t with
      | inl b => rw [eR] at h; cases h
      | inr y =>
        rw [eR] at h
        cases h
        exact hok
  rw [if_neg e4] at h
  by_cases e5 : t.2.1 = 5
  · rw [if_pos e5] at h
    cases fs with
    | true => cases h
    | false =>
      simp only [Bool.false_eq_true, if_false] at h
      unfold pSums at h
      by_cases c1 : nuI (lexT l t.2.2.2) 0 2 = false
      · rw [if_pos c1] at h; cases h
      rw [if_neg c1] at h
      by_cases c2 : nuI (lexT l (lexT l t.2.2.2).2.2.2) 1 9 = false
      · rw [if_pos c2] at h; cases h
      rw [if_neg c2] at h
      cases h
      exact hok
  rw [if_neg e5] at h
  cases h
section X
variable {N : Nat} {x : Nat → Int32} {l : List Nat}
theorem begin_m (hN : 600 ≤ N) {r : Nat → Int32} : ∃ r', mF_begin N r = some r' ∧ MRd r' dfl := by
  have loop : ∀ (m k f : Nat) (r : Nat → Int32), k + m = 17 → m < f → (∀ j, j < k → r j = 0) → ∃ r', mL_begin_2 N f (nI k) r = some (upd (upd (upd (upd (upd (upd (upd r' 10 1) 11 2) 12 4) 13 2) 14 1) 15 1) 16 4) ∧ ∀ j, j < 17 → r' j = 0 := by
    intro m
    induction m with
    | zero =>
      intro k f r hk hf hr
      obtain ⟨f, rfl⟩ : ∃ z, f = z + 1 := ⟨f - 1, by omega⟩
      unfold mL_begin_2
      rw [if_pos (show (17 : Int32) ≤ nI k from nI_le (a := 17) (by omega) (by omega))]
      exact ⟨r, rfl, fun j hj => hr j (by omega)⟩
    | succ m ih =>
      intro k f r hk hf hr
      obtain ⟨f, rfl⟩ : ∃ z, f = z + 1 := ⟨f - 1, by omega⟩
      unfold mL_begin_2
      rw [if_neg (show ¬ (17 : Int32) ≤ nI k from nI_ge (b := 17) (by omega) (by omega)), gd_nI (by omega) (by omega), nI_1]
      simp only [Option.bind_some]
      refine ih (k + 1) f _ (by omega) (by omega) (fun j hj => ?_)
      simp only [upd]
      by_cases c : j = k
      · rw [if_pos c]
      · rw [if_neg c]; exact hr j (by omega)
  obtain ⟨r', e, hr⟩ := loop 17 0 N r (by omega) (by omega) (fun j hj => by omega)
  refine ⟨_, e, ?_, fun i hi => absurd hi (by simp [dfl]), fun i hi => ?_, rfl, rfl⟩
  · simp only [upd]
    repeat rw [if_neg (by omega)]
    rw [hr 0 (by omega)]; rfl
  · match i, hi with
    | 0, _ => rfl
    | 1, _ => rfl
    | 2, _ => rfl
    | 3, _ => rfl
    | 4, _ => rfl
theorem takeRead_m (hN : 600 ≤ N) {r y : Nat → Int32} : ∃ y', mF_takeRead N r y = some y' ∧ (∀ j, j < 17 → y' j = r j) ∧ ∀ j, 17 ≤ j → y' j = y j := by
  have loop : ∀ (m k f : Nat) (y : Nat → Int32), k + m = 17 → m < f → (∀ j, j < k → y j = r j) → ∃ y', mL_takeRead_2 N r f (nI k) y = some y' ∧ (∀ j, j < 17 → y' j = r j) ∧ ∀ j, 17 ≤ j → y' j = y j := by
    intro m
    induction m with
    | zero =>
      intro k f y hk hf hr
      obtain ⟨f, rfl⟩ : ∃ z, f = z + 1 := ⟨f - 1, by omega⟩
      unfold mL_takeRead_2
      rw [if_pos (show (17 : Int32) ≤ nI k from nI_le (a := 17) (by omega) (by omega))]
      exact ⟨y, rfl, fun j hj => hr j (by omega), fun j _ => rfl⟩
    | succ m ih =>
      intro k f y hk hf hr
      obtain ⟨f, rfl⟩ : ∃ z, f = z + 1 := ⟨f - 1, by omega⟩
      unfold mL_takeRead_2
      rw [if_neg (show ¬ (17 : Int32) ≤ nI k from nI_ge (b := 17) (by omega) (by omega)), gd_nI (by omega) (by omega), nI_1]
      simp only [Option.bind_some]
      obtain ⟨y', q1, q2, q3⟩ := ih (k + 1) f (upd y k (r k)) (by omega) (by omega) (fun j hj => by
        simp only [upd]
        by_cases c : j = k
        · rw [if_pos c, c]
        · rw [if_neg c]; exact hr j (by omega))
      refine ⟨y', q1, q2, fun j hj => ?_⟩
      rw [q3 j hj]
      simp only [upd]; rw [if_neg (by omega)]
  exact loop 17 0 N y (by omega) (by omega) (fun j hj => by omega)
theorem text_l_m (hN : 600 ≤ N) (h : MTx x (nI l.length) l) (h256 : ∀ c ∈ l, c < 256) : ∀ (m fu : Nat) (t : Tk) (it : Nat) (fc fs : Bool) (p : Pn) (r : Nat → Int32) (tv : Int32), MRd r p → RsOk p.1 → t.2.1 ≤ 6 → t.1 ≤ l.length → t.2.2.2 ≤ l.length → msI p fc fs ≤ m → m + 2 ≤ fu → match pAll l (m + 1) fc fs p it t with
    | .inl b => b ≤ l.length ∧ ∃ r' a' t' s' v' i' c' m', mL_readText_28 N x (nI l.length) fu r (nI t.2.2.2) (nI t.1) (nI (mS t.2.1)) tv (nI it) (bI fc) (bI fs) = some (nI b, r', a', t', s', v', i', c', m')
    | .inr (p', it') => ∃ r' a' t' s' v' c' m', mL_readText_28 N x (nI l.length) fu r (nI t.2.2.2) (nI t.1) (nI (mS t.2.1)) tv (nI it) (bI fc) (bI fs) = some (-9, r', a', t', s', v', nI it', c', m') ∧ MRd r' p' ∧ RsOk p'.1 := by
  intro m
  induction m with
  | zero =>
    intro fu t it fc fs p r tv hr hok hs ht1 ht hm hf
    obtain ⟨fu, rfl⟩ : ∃ z, fu = z + 1 := ⟨fu - 1, by omega⟩
    have hI := readItem_m hN h h256 ht ht1 hs hr hok (it := it) (fc := fc) (fs := fs) (tv := tv)
    obtain ⟨m4, m5, m6, m59, m2⟩ := mS_all t.2.1 (by omega)
    unfold pAll mL_readText_28
    by_cases c6 : t.2.1 = 6
    · rw [if_pos c6]
      have e6 : pItem l fc fs p t = .inl t.1 := by unfold pItem; rw [if_neg (by omega), if_neg (by omega), if_neg (by omega)]
      rw [e6] at hI
      obtain ⟨hb, r', a', s', v', i', c', m', e⟩ := hI
      rw [if_neg (fun z => by have := m2.mp z; omega), e]
      exact ⟨ht1, _, _, _, _, _, _, _, _, rfl⟩
    rw [if_neg c6]
    by_cases c0 : t.2.1 = 0
    · rw [if_pos c0, if_pos (m2.mpr c0)]
      exact ⟨_, _, _, _, _, _, _, rfl, hr, hok⟩
    rw [if_neg c0, if_neg (fun z => c0 (m2.mp z))]
    cases eR : pItem l fc fs p t with
    | inl b =>
      rw [eR] at hI
      obtain ⟨hb, r', a', s', v', i', c', m', e⟩ := hI
      rw [e]
      exact ⟨hb, _, _, _, _, _, _, _, _, rfl⟩
    | inr y =>
      obtain ⟨⟨p', fc', fs'⟩, t3⟩ := y
      have := pItem_ms hok.2.1 eR
      omega
  | succ m ih =>
    intro fu t it fc fs p r tv hr hok hs ht1 ht hm hf
    obtain ⟨fu, rfl⟩ : ∃ z, fu = z + 1 := ⟨fu - 1, by omega⟩
    have hI := readItem_m hN h h256 ht ht1 hs hr hok (it := it) (fc := fc) (fs := fs) (tv := tv)
    obtain ⟨m4, m5, m6, m59, m2⟩ := mS_all t.2.1 (by omega)
    unfold pAll mL_readText_28
    by_cases c6 : t.2.1 = 6
    · rw [if_pos c6]
      have e6 : pItem l fc fs p t = .inl t.1 := by unfold pItem; rw [if_neg (by omega), if_neg (by omega), if_neg (by omega)]
      rw [e6] at hI
      obtain ⟨hb, r', a', s', v', i', c', m', e⟩ := hI
      rw [if_neg (fun z => by have := m2.mp z; omega), e]
      exact ⟨ht1, _, _, _, _, _, _, _, _, rfl⟩
    rw [if_neg c6]
    by_cases c0 : t.2.1 = 0
    · rw [if_pos c0, if_pos (m2.mpr c0)]
      exact ⟨_, _, _, _, _, _, _, rfl, hr, hok⟩
    rw [if_neg c0, if_neg (fun z => c0 (m2.mp z))]
    cases eR : pItem l fc fs p t with
    | inl b =>
      rw [eR] at hI
      obtain ⟨hb, r', a', s', v', i', c', m', e⟩ := hI
      rw [e]
      exact ⟨hb, _, _, _, _, _, _, _, _, rfl⟩
    | inr y =>
      obtain ⟨⟨p', fc', fs'⟩, t3⟩ := y
      have hms := pItem_ms hok.2.1 eR
      rw [eR] at hI
      obtain ⟨b3, hI⟩ := hI
      simp only
      have b4 := lexT_le b3
      by_cases c2 : (lexT l t3.2.2.2).2.1 = 2
      · rw [if_pos c2] at hI ⊢
        obtain ⟨r', v', e, hr'⟩ := hI
        rw [e]
        simp only [Option.bind_some]
        rw [if_neg (by decide)]
        obtain ⟨v5, e5, -⟩ := scan_m hN h h256 b4.1 (ta := nI (lexT l t3.2.2.2).1) (ts := nI (mS (lexT l t3.2.2.2).2.1)) (tv := v')
        rw [e5]
        simp only [Option.bind_some]
        have b5 := lexT_le b4.1
        exact ih fu _ (it + 1) fc' fs' p' r' v5 hr' (pItem_rs hok eR) (lexT_sort _ _) b5.2.1 b5.1 (by omega) (by omega)
      · rw [if_neg c2] at hI ⊢
        obtain ⟨r', a', s', v', i', c', m', e⟩ := hI
        rw [e]
        exact ⟨b4.2.1, _, _, _, _, _, _, _, _, rfl⟩
theorem m_tells (hN : 600 ≤ N) {S : Sp} {xn rd y : Nat → Int32} {n le a0 ta ts tv it ct st : Int32} (hx : MDk xn S.1) (hok : DkOk S.1) (hp : MPa y n S.2.1) (ht : MTx x le S.2.2.2) (h256 : ∀ c ∈ S.2.2.2, c < 256) : ∃ xn' rd' y' n' le' a0' ta' ts' tv' it' ct' st', mF_tells N x xn rd y n le a0 ta ts tv it ct st = some ((spTells S).1, xn', rd', y', n', le', a0', ta', ts', tv', it', ct', st') ∧ MDk xn' (spTells S).2.1 ∧ MPa y' n' (spTells S).2.2.1 ∧ MTx x le' (spTells S).2.2.2.2 ∧ (spTells S).2.2.2.1 = S.2.2.1 := by
  obtain ⟨rfl, ht2, ht3⟩ := id ht
  obtain ⟨r', e0, hr⟩ := begin_m (N := N) hN (r := rd)
  obtain ⟨v1, e1, -⟩ := scan_m (l := S.2.2.2) hN ht h256 (Nat.zero_le _) (ta := ta) (ts := ts) (tv := tv)
  have b1 := lexT_le (l := S.2.2.2) (Nat.zero_le _)
  have := text_l_m (l := S.2.2.2) hN ht h256 5 N (lexT S.2.2.2 0) 0 false false dfl r' v1 hr ⟨fun _ h => by simp [dfl] at h, by decide, by decide⟩ (lexT_sort _ _) b1.2.1 b1.1 (by decide) (by omega)
  have eT : mF_readText N x (nI S.2.2.2.length) rd a0 ta ts tv it ct st = mL_readText_28 N x (nI S.2.2.2.length) N r' (nI (lexT S.2.2.2 0).2.2.2) (nI (lexT S.2.2.2 0).1) (nI (mS (lexT S.2.2.2 0).2.1)) v1 (nI 0) (bI false) (bI false) := by
    unfold mF_readText
    rw [e0]
    simp only [Option.bind_some]
    rw [show (0 : Int32) = nI 0 from rfl, e1]
    rfl
  unfold mF_tells spTells
  rw [eT]
  cases eR : pAll S.2.2.2 6 false false dfl 0 (lexT S.2.2.2 0) with
  | inl b =>
    rw [eR] at this
    obtain ⟨hb, r2, a2, t2, s2, v2, i2, c2, m2, e2⟩ := this
    rw [e2]
    simp only [Option.bind_some]
    rw [if_neg (show ¬ nI b = -9 from fun z => by
      have h0 := nI_pos (n := b) (by omega)
      rw [z] at h0
      exact h0 (by decide))]
    exact ⟨_, _, _, _, _, _, _, _, _, _, _, _, rfl, hx, hp, ht, trivial⟩
  | inr q =>
    obtain ⟨p', it'⟩ := q
    rw [eR] at this
    obtain ⟨r2, a2, t2, s2, v2, c2, m2, e2, hr2, hrs2⟩ := this
    rw [e2]
    simp only [Option.bind_some]
    rw [if_pos trivial]
    obtain ⟨y', n', en, hn⟩ := m_note hN hx hok hp
    obtain ⟨xn', ex, q1, q2⟩ := takeRead_m hN (r := r2) (y := xn)
    rw [en]
    simp only [Option.bind_some]
    rw [ex]
    refine ⟨_, _, _, _, _, _, _, _, _, _, _, _, rfl, ?_, hn, ⟨rfl, fun i hi => absurd hi (by simp), by simp⟩, trivial⟩
    obtain ⟨r0, r1, r3, r4, r5⟩ := hr2
    obtain ⟨-, -, -, -, -, x6, x7⟩ := hx
    have hl3 : p'.1.length ≤ 3 := hrs2.2.1
    refine ⟨by rw [q1 0 (by omega)]; exact r0, fun i hi => ?_, fun i hi => by rw [q1 _ (by omega)]; exact r3 i hi, by rw [q1 15 (by omega)]; exact r4, by rw [q1 16 (by omega)]; exact r5, by rw [q2 17 (by omega)]; exact x6, fun i hi => ?_⟩
    · have hi' : i < p'.1.length := hi
      rw [q1 _ (by omega), q1 _ (by omega), q1 _ (by omega)]; exact r1 i hi
    · rw [q2 _ (by omega), q2 _ (by omega)]; exact x7 i hi
end X

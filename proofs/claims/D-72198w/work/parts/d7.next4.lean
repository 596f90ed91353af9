/-! PURE 94: Reader.next: by tokens -/
theorem wdS_ok {w : List Nat} (h0 : w ≠ []) (h1 : w ≠ [59]) : okW w = !decide (wdS w = 6) := by
  unfold okW wdS
  by_cases c1 : w = [114, 117, 108, 101]
  · subst c1; decide
  · rw [if_neg c1]
    by_cases c2 : w = [99, 104, 97, 110, 99, 101]
    · subst c2; decide
    · rw [if_neg c2]
      by_cases c3 : w = [115, 117, 109, 115]
      · subst c3; decide
      · rw [if_neg c3]; simp [h0, h1, c1, c2, c3]
theorem wdS_w {w : List Nat} {b v e : Nat} (h : wdS w ≠ 6) : tkW (b, wdS w, v, e) = w ∧ tkN (b, wdS w, v, e) = -9 := by
  have k3 : ∀ n : Nat, n = 3 → tkW (b, n, v, e) = [114, 117, 108, 101] ∧ tkN (b, n, v, e) = -9 := fun n hn => by subst hn; exact ⟨rfl, rfl⟩
  have k4 : ∀ n : Nat, n = 4 → tkW (b, n, v, e) = [99, 104, 97, 110, 99, 101] ∧ tkN (b, n, v, e) = -9 := fun n hn => by subst hn; exact ⟨rfl, rfl⟩
  have k5 : ∀ n : Nat, n = 5 → tkW (b, n, v, e) = [115, 117, 109, 115] ∧ tkN (b, n, v, e) = -9 := fun n hn => by subst hn; exact ⟨rfl, rfl⟩
  by_cases c1 : w = [114, 117, 108, 101]
  · subst c1; exact k3 _ (by decide)
  · by_cases c2 : w = [99, 104, 97, 110, 99, 101]
    · subst c2; exact k4 _ (by decide)
    · by_cases c3 : w = [115, 117, 109, 115]
      · subst c3; exact k5 _ (by decide)
      · exact absurd (by unfold wdS; rw [if_neg c1, if_neg c2, if_neg c3]) h
section X
variable {V : HEn} {nx ro so sd po it on : Nat} {l : List Nat}
theorem next_b (hV : 1200 ≤ V.2.2.2.2) {b wo bg0 : Nat} {nu0 : Int32} {G : Gh} {m : Nat} (hb : b ≤ l.length) (h : RdB V G nx ro so sd po b bg0 wo nu0 it on l) (hns : ofB l b 32 32 = false) : wH (hL_X4_next_0 V ro (m + 1) G nx) (NxQ V G nx ro so sd po it on l (lexB l b)) := by
  obtain ⟨h1, h2, h3, h4, h5, h6, h7, h8, h9, h10, h11⟩ := id h
  rw [hL_X4_next_0]
  refine w_pos (gC_at h1) (w_call0 (isOf_at (lo := 32) (hi := 32) h1 h2 hb (by omega) (by omega)) (w_pos (by rw [hns]; rfl) (w_xI h1 rfl rfl ?_)))
  refine w_xF (fs' := [va_rf (some so), va_rf (some po), .int (nI b), .int (nI b), va_rf (some wo), .int nu0, .int (nI it), va_rf (some on)]) h1 rfl (Nat.le_of_ble_eq_true rfl) h4 rfl ?_
  refine w_xF (fs' := [va_rf (some so), va_rf (some po), .int (nI b), .int (nI b), va_rf (some wo), .int (-9), .int (nI it), va_rf (some on)]) (gset_eq _ _ _) rfl (Nat.le_of_ble_eq_true rfl) h4 rfl ?_
  have hS := (h.set (at2 := b) (bg2 := b) (nu2 := nu0)).set (at2 := b) (bg2 := b) (nu2 := -9)
  generalize hG2 : gset (gset G ro (rdc so po b b wo nu0 it on)) ro (rdc so po b b wo (-9) it on) = G2 at hS
  have k2 : ∀ c, c ≠ ro → G2 c = G c := fun c hc => by rw [← hG2, gset_ne _ _ hc, gset_ne _ _ hc]
  show wH (if gC G2 ro 3 = true then _ else _) _
  clear hG2
  obtain ⟨g1, g2, g3, g4, g5, g6, g7, g8, g9, g10, g11⟩ := id hS
  refine w_pos (gC_at g1) (w_call0 (isOf_at (lo := 48) (hi := 57) g1 g2 hb (by omega) (by omega)) ?_)
  unfold NxQ
  cases eb : l[b]? with
  | none =>
    have hbl : b = l.length := by have := List.getElem?_eq_none_iff.mp eb; omega
    have eo : ofB l b 48 57 = false := by unfold ofB; rw [eb]
    have el : lexB l b = (b, 0, 0, b) := by unfold lexB; rw [eb]
    have es : skW isLe l b = b := skW_stop (fun c hc => by rw [eb] at hc; cases hc)
    rw [eo, el]
    refine w_pos rfl (w_mono (next_163 (P := l) hV (l.length - b) b V.2.2.2.2 G2 (by omega) (by omega) (Nat.le_refl _) hS) ?_)
    rintro r G3 c s ⟨q1, q2, q3, e, q4, q5⟩
    rw [es, if_neg (by omega)] at q4
    subst q4
    rw [Nat.sub_self, List.take_zero] at q5
    refine ⟨q1, q2, fun a a1 a2 a3 => by rw [q3 a a1 a2 a3, k2 a a2], ?_⟩
    rcases q5 with ⟨-, q6, q7⟩ | ⟨q6, -⟩
    · exact Or.inl ⟨(by decide : (0 : Nat) ≠ 6), q6, q7⟩
    · exact absurd q6 (by decide)
  | some c0 =>
    have hbl := (List.getElem?_eq_some_iff.mp eb).1
    have eo : ofB l b 48 57 = isDg c0 := by unfold ofB; rw [eb]; rfl
    rw [eo]
    cases ed : isDg c0 with
    | true =>
      have el : lexB l b = (if ((l.drop b).takeWhile isDg).foldl nvF 0 ≤ 99 ∧ (c0 ≠ 48 ∨ skW isDg l b = b + 1) then (b, 1, ((l.drop b).takeWhile isDg).foldl nvF 0, skW isDg l b) else (b, 6, 0, skW isDg l b)) := by
        unfold lexB; rw [eb]; simp only [ed, if_true]
      rw [el]
      refine w_neg (by decide) ?_
      refine w_xF (fs' := [va_rf (some so), va_rf (some po), .int (nI b), .int (nI b), va_rf (some wo), .int (nI 0), .int (nI it), va_rf (some on)]) g1 rfl (Nat.le_of_ble_eq_true rfl) h4 rfl ?_
      have hS3 := hS.set (at2 := b) (bg2 := b) (nu2 := nI 0)
      refine w_mono (next_54 hV eb (l.length - b) b V.2.2.2.2 0 _ (by omega) (by omega) (Or.inr ⟨rfl, ed⟩) (by omega) hS3) ?_
      rintro r G3 c s ⟨q1, q2, q3, q5⟩
      refine ⟨q1, q2, fun a a1 a2 a3 => by rw [q3 a a1 a2 a3, gset_ne _ _ a2, k2 a a2], ?_⟩
      rcases q5 with ⟨c1, q6, q7⟩ | ⟨c1, q6⟩
      · rw [if_pos c1]
        exact Or.inl ⟨(by decide : (1 : Nat) ≠ 6), q6, q7⟩
      · rw [if_neg c1]
        exact Or.inr ⟨rfl, q6⟩
    | false =>
      refine w_pos rfl (w_mono (next_163 (P := l) hV (l.length - b) b V.2.2.2.2 G2 (by omega) (by omega) (Nat.le_refl _) hS) ?_)
      rintro r G3 c s ⟨q1, q2, q3, e, q4, q5⟩
      refine ⟨q1, q2, fun a a1 a2 a3 => by rw [q3 a a1 a2 a3, k2 a a2], ?_⟩
      cases el' : isLe c0 with
      | true =>
        obtain ⟨e1, e2⟩ := skW_step eb el'
        have hge := (skW_le (p := isLe) (l := l) (a := b + 1) (by omega)).1
        have el : lexB l b = (b, wdS ((l.drop b).takeWhile isLe), 0, skW isLe l b) := by
          unfold lexB; rw [eb]; simp only [ed, el', if_true]; rfl
        rw [if_neg (by omega)] at q4
        subst q4
        rw [take_skW] at q5
        have hw0 : (l.drop b).takeWhile isLe ≠ [] := by rw [e2]; simp
        have hw1 : (l.drop b).takeWhile isLe ≠ [59] := by
          rw [e2]
          intro z
          have := (List.cons.inj z).1
          rw [this] at el'
          exact absurd el' (by decide)
        have ok := wdS_ok hw0 hw1
        rw [el]
        generalize hw : (l.drop b).takeWhile isLe = w at *
        rcases q5 with ⟨c1, q6, q7⟩ | ⟨c1, q6⟩
        · have h6 : wdS w ≠ 6 := by
            rw [ok] at c1
            simpa using c1
          obtain ⟨t1, t2⟩ := wdS_w (b := b) (v := 0) (e := skW isLe l b) h6
          refine Or.inl ⟨h6, q6, ?_⟩
          rw [t1, t2]; exact q7
        · have h6 : wdS w = 6 := by
            rw [ok] at c1
            simpa using c1
          exact Or.inr ⟨h6, q6⟩
      | false =>
        have es : skW isLe l b = b := skW_stop (fun c hc => by rw [eb] at hc; cases hc; exact el')
        have el : lexB l b = (b, (if c0 = 59 then 2 else 6), 0, b + 1) := by
          unfold lexB; rw [eb]; simp only [ed, el']; rfl
        rw [es, if_pos ⟨rfl, hbl⟩] at q4
        subst q4
        have hw : (l.drop b).take (b + 1 - b) = [c0] := by
          rw [Nat.add_sub_cancel_left, drop_cons eb]; rfl
        rw [hw] at q5
        rw [el]
        by_cases c59 : c0 = 59
        · subst c59
          rcases q5 with ⟨-, q6, q7⟩ | ⟨c1, q6⟩
          · exact Or.inl ⟨(by decide : (2 : Nat) ≠ 6), q6, q7⟩
          · exact absurd c1 (by decide)
        · rw [if_neg c59]
          rcases q5 with ⟨c1, q6, q7⟩ | ⟨c1, q6⟩
          · exfalso
            have := of_decide_eq_true c1
            rcases this with z | z | z | z | z
            · cases z
            · exact c59 (List.cons.inj z).1
            · have := congrArg List.length z; simp at this
            · have := congrArg List.length z; simp at this
            · have := congrArg List.length z; simp at this
          · exact Or.inr ⟨rfl, q6⟩
theorem next_at (hV : 1200 ≤ V.2.2.2.2) {at_ bg wo : Nat} {nu : Int32} {G : Gh} (hb : at_ ≤ l.length) (h : RdB V G nx ro so sd po at_ bg wo nu it on l) : wH (hF_X4_next V G nx ro) (NxQ V G nx ro so sd po it on l (lexT l at_)) := by
  have loop : ∀ (c at_ m : Nat) (G : Gh), at_ + c = l.length → c + 1 ≤ m → RdB V G nx ro so sd po at_ bg wo nu it on l → wH (hL_X4_next_0 V ro m G nx) (NxQ V G nx ro so sd po it on l (lexT l at_)) := by
    intro c
    induction c with
    | zero =>
      intro at_ m G hc hm h
      obtain ⟨m, rfl⟩ := Nat.exists_eq_succ_of_ne_zero (show m ≠ 0 by omega)
      have en : l[at_]? = none := List.getElem?_eq_none_iff.mpr (by omega)
      have es : skW isSp l at_ = at_ := skW_stop (fun c hc => by rw [en] at hc; cases hc)
      unfold lexT
      rw [es]
      exact next_b hV (by omega) h (by unfold ofB; rw [en])
    | succ c ih =>
      intro at_ m G hc hm h
      obtain ⟨m, rfl⟩ := Nat.exists_eq_succ_of_ne_zero (show m ≠ 0 by omega)
      have hal : at_ < l.length := by omega
      have eg : l[at_]? = some l[at_] := List.getElem?_eq_getElem hal
      have eo : ofB l at_ 32 32 = isSp l[at_] := by
        unfold ofB isSp
        rw [eg]
        simp only
        exact decide_eq_decide.mpr (by omega)
      cases ep : isSp l[at_] with
      | false =>
        have es : skW isSp l at_ = at_ := skW_stop (fun c hc => by rw [eg] at hc; cases hc; exact ep)
        unfold lexT
        rw [es]
        exact next_b hV (by omega) h (eo.trans ep)
      | true =>
        obtain ⟨h1, h2, h3, h4, h5, h6, h7, h8, h9, h10, h11⟩ := id h
        obtain ⟨e1, e2⟩ := skW_step eg ep
        rw [hL_X4_next_0]
        refine w_pos (gC_at h1) (w_call0 (isOf_at (lo := 32) (hi := 32) h1 h2 (by omega) (by omega) (by omega)) ?_)
        rw [eo, ep]
        refine w_neg (by decide) (w_xI h1 rfl rfl ?_)
        rw [nI_1]
        refine w_xF (fs' := [va_rf (some so), va_rf (some po), .int (nI (at_ + 1)), .int (nI bg), va_rf (some wo), .int nu, .int (nI it), va_rf (some on)]) h1 rfl (Nat.le_of_ble_eq_true rfl) h4 rfl ?_
        have et : lexT l at_ = lexT l (at_ + 1) := by unfold lexT; rw [e1]
        rw [et]
        refine w_mono (ih (at_ + 1) m _ (by omega) (by omega) (h.set (at2 := at_ + 1) (bg2 := bg) (nu2 := nu))) ?_
        rintro r G' c s ⟨q1, q2, q3, q4⟩
        exact ⟨q1, q2, fun b b1 b2 b3 => by rw [q3 b b1 b2 b3, gset_ne _ _ b2], q4⟩
  have hl := h.2.2.2.2.2.2.2.2.2.2
  exact loop (l.length - at_) at_ V.2.2.2.2 G (by omega) (by omega) h
theorem lexT_le {a : Nat} (h : a ≤ l.length) : (lexT l a).2.2.2 ≤ l.length ∧ (lexT l a).1 ≤ l.length ∧ (lexT l a).2.2.1 ≤ 99 := by
  have hb := skW_le (p := isSp) h
  unfold lexT lexB
  cases e : l[skW isSp l a]? with
  | none => exact ⟨hb.2, hb.2, by simp only; omega⟩
  | some c =>
    have hl := (List.getElem?_eq_some_iff.mp e).1
    have h1 := skW_le (p := isDg) (l := l) (a := skW isSp l a) (by omega)
    have h2 := skW_le (p := isLe) (l := l) (a := skW isSp l a) (by omega)
    simp only
    split
    · split
      · rename_i hh; exact ⟨h1.2, hb.2, hh.1⟩
      · exact ⟨h1.2, hb.2, by simp only; omega⟩
    · split
      · exact ⟨h2.2, hb.2, by simp only; omega⟩
      · exact ⟨by simp only; omega, hb.2, by simp only; omega⟩
end X

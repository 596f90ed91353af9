/-! PURE F1: the model's undo, keep, back, becomes, goes, comes -/
theorem MPa.drop {y : Nat → Int32} {l : List Dk} {n : Int32} (h : MPa y n l) : MPa y (nI (l.length - 1)) l.dropLast := by
  obtain ⟨-, h2, h3⟩ := h
  refine ⟨by rw [List.length_dropLast], by rw [List.length_dropLast]; omega, fun i hi => ?_⟩
  rw [List.length_dropLast] at hi
  rw [List.getElem_dropLast]
  exact h3 i (by omega)
theorem m_undo {N : Nat} {x y : Nat → Int32} {n : Int32} {S : Sp} (hN : 600 ≤ N) (hx : MDk x S.1) (hok : DkOk S.1) (h : MPa y n S.2.1) : ∃ x' n', mF_undo N y x n = some ((spUndo S).1, x', n') ∧ MDk x' (spUndo S).2.1 ∧ DkOk (spUndo S).2.1 ∧ MPa y n' (spUndo S).2.2.1 ∧ (spUndo S).2.2.2 = S.2.2 := by
  have hd := h.drop
  obtain ⟨rfl, h2, h3⟩ := id h
  unfold mF_undo spUndo
  cases e : S.2.1.getLast? with
  | none =>
    have e0 : S.2.1 = [] := List.getLast?_eq_none_iff.mp e
    rw [if_pos (by rw [e0]; rfl)]
    exact ⟨x, _, rfl, hx, hok, h, rfl⟩
  | some k =>
    have hl : 0 < S.2.1.length := by
      cases e1 : S.2.1 with
      | nil => rw [e1] at e; cases e
      | cons a t => simp
    have hk : S.2.1[S.2.1.length - 1]'(by omega) = k := by
      rw [List.getLast?_eq_getElem?, List.getElem?_eq_getElem (by omega)] at e
      exact Option.some.inj e
    rw [if_neg (fun z => by have := (i_zero (by omega)).mp z; omega)]
    have e1 : nI S.2.1.length - 1 = nI (S.2.1.length - 1) := by
      rw [show (1 : Int32) = nI 1 from rfl, nI_sub (by omega)]
    rw [e1, show (98 : Int32) = nI 98 from rfl, nI_mul, show (0 : Int32) = nI 0 from rfl]
    obtain ⟨g', b1, b2, b3⟩ := bring_at (N := N) (n0 := 588) (n1 := 98) (a := 98 * (S.2.1.length - 1)) (b := 0) (f := y) (g := x) (by omega) (by omega) (by omega) (by omega) (by omega)
    rw [b1]
    have hh := h3 (S.2.1.length - 1) (by omega)
    rw [hk] at hh
    exact ⟨g', _, rfl, hh.1.ext hh.2 (fun j hj => by show g' j = y (98 * (S.2.1.length - 1) + j); rw [← b2 j hj, Nat.zero_add]), hh.2, hd, rfl⟩
theorem m_keep {N : Nat} {x z kp : Nat → Int32} {a : Int32} {S : Sp} (hN : 600 ≤ N) (hx : MDk x S.1) (hok : DkOk S.1) (h0 : MIm z kp 0 S.2.2.1.1) (h1 : MIm z kp 1 S.2.2.1.2) : ∃ z' kp', mF_keep N x a z kp = some ((spKeep S a).1, z', kp') ∧ MIm z' kp' 0 (spKeep S a).2.2.2.1.1 ∧ MIm z' kp' 1 (spKeep S a).2.2.2.1.2 ∧ (spKeep S a).2.1 = S.1 ∧ (spKeep S a).2.2.1 = S.2.1 ∧ (spKeep S a).2.2.2.2 = S.2.2.2 := by
  unfold mF_keep spKeep
  rw [show (1 : Int32) = nI 2 - 1 from by decide, min_at (by decide)]
  cases e : iR a 2 with
  | none => exact ⟨z, kp, rfl, h0, h1, rfl, rfl, rfl⟩
  | some v =>
    obtain ⟨rfl, hv⟩ := iR_some (by decide) e
    simp only [Option.isSome_some, if_true, Option.bind_some]
    rw [if_neg (by decide), show (98 : Int32) = nI 98 from rfl, nI_mul, show (0 : Int32) = nI 0 from rfl]
    obtain ⟨g', b1, b2, b3⟩ := bring_at (N := N) (n0 := 98) (n1 := 196) (a := 0) (b := 98 * v) (f := x) (g := z) (by omega) (by omega) (by omega) (by omega) (by omega)
    rw [b1, gd_nI (by omega) (by omega)]
    have new : MIm g' (upd kp v (vp_nar .boolean 1)) v (some S.1) := ⟨by
      unfold upd
      rw [if_pos rfl]; decide, hx.ext hok (fun j hj => by show g' (98 * v + j) = x j; rw [b2 j hj, Nat.zero_add]), hok⟩
    have old : ∀ w k, w < 2 → w ≠ v → MIm z kp w k → MIm g' (upd kp v (vp_nar .boolean 1)) w k := fun w k hw hwv hk => by
      have ek : upd kp v (vp_nar .boolean 1) w = kp w := if_neg hwv
      cases k with
      | none => show upd kp v (vp_nar .boolean 1) w = 0; rw [ek]; exact hk
      | some d => exact ⟨by rw [ek]; exact hk.1, hk.2.1.ext hk.2.2 (fun j hj => b3 _ (by omega)), hk.2.2⟩
    refine ⟨g', _, by rw [hx.2.2.2.2.2.1]; rfl, ?_⟩
    by_cases cv : v = 0
    · subst cv
      exact ⟨new, old 1 _ (by omega) (by omega) h1, by simp⟩
    · have : v = 1 := by omega
      subst this
      exact ⟨old 0 _ (by omega) (by omega) h0, new, by simp⟩
theorem m_back {N : Nat} {x z kp y : Nat → Int32} {a n : Int32} {S : Sp} (hN : 600 ≤ N) (hx : MDk x S.1) (hok : DkOk S.1) (h : MPa y n S.2.1) (h0 : MIm z kp 0 S.2.2.1.1) (h1 : MIm z kp 1 S.2.2.1.2) : ∃ x' n', mF_back N z kp a x n = some ((spBack S a).1, x', n') ∧ MDk x' (spBack S a).2.1 ∧ DkOk (spBack S a).2.1 ∧ MPa y n' (spBack S a).2.2.1 ∧ (spBack S a).2.2.2 = S.2.2 := by
  unfold mF_back spBack
  rw [show (1 : Int32) = nI 2 - 1 from by decide, min_at (by decide)]
  cases e : iR a 2 with
  | none => exact ⟨x, n, rfl, hx, hok, h, rfl⟩
  | some v =>
    obtain ⟨rfl, hv⟩ := iR_some (by decide) e
    simp only [Option.isSome_some, if_true, Option.bind_some]
    rw [if_neg (by decide), gd_nI (by omega) (by omega)]
    have hm : MIm z kp v (if v = 0 then S.2.2.1.1 else S.2.2.1.2) := by
      by_cases cv : v = 0
      · subst cv; exact h0
      · have : v = 1 := by omega
        subst this; exact h1
    cases ek : (if v = 0 then S.2.2.1.1 else S.2.2.1.2) with
    | none =>
      rw [ek] at hm
      simp only [Option.bind_some]
      rw [if_pos (show kp v = 0 from hm)]
      exact ⟨x, n, rfl, hx, hok, h, by simp⟩
    | some d =>
      rw [ek] at hm
      simp only [Option.bind_some]
      rw [if_neg hm.1, show (98 : Int32) = nI 98 from rfl, nI_mul]
      obtain ⟨g', b1, b2, b3⟩ := bring_at (N := N) (n0 := 196) (n1 := 98) (a := 98 * v) (b := 0) (f := z) (g := x) (by omega) (by omega) (by omega) (by omega) (by omega)
      rw [show (0 : Int32) = nI 0 from rfl, b1]
      have hd : MDk g' d := hm.2.1.ext hm.2.2 (fun j hj => by show g' j = z (98 * v + j); rw [← b2 j hj, Nat.zero_add])
      exact ⟨g', _, by rw [← hd.2.2.2.2.2.1]; rfl, hd, hm.2.2, ⟨rfl, by simp, fun i hi => absurd hi (by simp)⟩, by simp⟩
theorem isRow_m {N : Nat} {x : Nat → Int32} {a : Int32} {k : Dk} (hx : MDk x k) (hok : DkOk k) : mF_isRow N x a = some (if (iR a k.2.length).isSome then 1 else 0) := by
  unfold mF_isRow
  have l2 : k.2.length ≤ 40 := hok.2.2.1
  rw [hx.2.2.2.2.2.1, min_at (by omega)]
  simp only [Option.bind_some]
  cases iR a k.2.length with
  | none => rfl
  | some v => rfl
theorem isSign_m {N : Nat} {a : Int32} : mF_isSign N a = some (if (iR a 5).isSome then 1 else 0) := by
  unfold mF_isSign
  rw [show (4 : Int32) = nI 5 - 1 from by decide, min_at (by decide)]
  simp only [Option.bind_some]
  cases iR a 5 with
  | none => rfl
  | some v => rfl
theorem m_chance {N : Nat} {x : Nat → Int32} {a : Int32} {S : Sp} (hx : MDk x S.1) : mF_chance N x a = some (spChance S a) := by
  unfold mF_chance spChance
  rw [isSign_m]
  cases e : iR a 5 with
  | none => rfl
  | some v =>
    obtain ⟨rfl, hv⟩ := iR_some (by decide) e
    simp only [Option.isSome_some, if_true, Option.bind_some]
    rw [if_neg (by decide), show (10 : Int32) = nI 10 from rfl, nI_add, gd_nI (by omega) (by omega)]
    show some (x (10 + v)) = _
    rw [hx.2.2.1 v hv]
theorem m_rule {N : Nat} {x : Nat → Int32} {a b : Int32} {S : Sp} (hx : MDk x S.1) (hok : DkOk S.1) : mF_rule N x a b = some (spRule S a b) := by
  have l1 : S.1.1.1.length ≤ 3 := hok.1.1.2.1
  unfold mF_rule spRule
  rw [hx.1, min_at (by omega)]
  cases e : iR a S.1.1.1.length with
  | none => rfl
  | some v =>
    obtain ⟨rfl, hv⟩ := iR_some (by omega) e
    simp only [Option.isSome_some, if_true, Option.bind_some]
    rw [if_neg (by decide), show (2 : Int32) = nI 3 - 1 from by decide, min_at (by decide)]
    cases e2 : iR b 3 with
    | none => rfl
    | some w =>
      obtain ⟨rfl, hw⟩ := iR_some (by decide) e2
      simp only [Option.isSome_some, if_true, Option.bind_some]
      rw [if_neg (by decide), show (1 : Int32) = nI 1 from rfl, show (3 : Int32) = nI 3 from rfl, nI_mul, nI_add, nI_add, gd_nI (by omega) (by omega)]
      obtain ⟨r1, r2, r3⟩ := hx.2.1 v hv
      show some (x (1 + 3 * v + w)) = _
      by_cases c0 : w = 0
      · subst c0; rw [if_pos rfl]; exact congrArg some r1
      rw [if_neg c0]
      by_cases c1 : w = 1
      · subst c1; rw [if_pos rfl, show 1 + 3 * v + 1 = 2 + 3 * v by omega]; exact congrArg some r2
      rw [if_neg c1, show 1 + 3 * v + w = 3 + 3 * v by omega]; exact congrArg some r3

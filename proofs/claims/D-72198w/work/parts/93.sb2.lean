/-! PURE 24: StringBuilder.append(int), toString; Strings: equals, hashCode -/
/-- the tables of digits -/
def Dgt (V : HEn) (G : Gh) : Prop :=
  (∃ a f, V.2.2.1 2 = some a ∧ a < V.1 ∧ G a = some (.inl (V.2.1 1, 100, .inl f)) ∧ ∀ i, i < 100 → f i = nI (48 + i % 10)) ∧
  (∃ a f, V.2.2.1 3 = some a ∧ a < V.1 ∧ G a = some (.inl (V.2.1 1, 100, .inl f)) ∧ ∀ i, i < 100 → f i = nI (48 + i / 10))
theorem Dgt.keep {V : HEn} {G G' : Gh} (h : Dgt V G) (hk : ∀ a, a < V.1 → G' a = G a) : Dgt V G' := by
  obtain ⟨⟨a, f, h1, h2, h3, h4⟩, b, g, k1, k2, k3, k4⟩ := h
  exact ⟨⟨a, f, h1, h2, (hk _ h2).trans h3, h4⟩, b, g, k1, k2, (hk _ k2).trans k3, k4⟩
def dg (x : Nat) : List Nat := if x < 10 then [48 + x] else [48 + x / 10, 48 + x % 10]
/-- what an int is told by: x, or the alarm -/
def tell (r : Option Nat) : Int32 := match r with
  | some x => nI x
  | none => -5
def dgt (r : Option Nat) : List Nat := match r with
  | some x => dg x
  | none => [45, 53]
theorem dgt_len {r : Option Nat} : 1 ≤ (dgt r).length ∧ (dgt r).length ≤ 2 := by
  cases r with
  | none => decide
  | some x => unfold dgt dg; simp only; split <;> simp
section B
variable {V : HEn} {G : Gh} {o d n nx : Nat} {l : List Nat}
theorem ssize_at {r : Option Nat} (hV : 200 ≤ V.2.2.2.2) (hr : ∀ x, r = some x → x < 100) : hF_J23_stringSize V G nx (tell r) = some (nI (dgt r).length, G, 0, 0) := by
  obtain ⟨m, hm⟩ := Nat.exists_eq_succ_of_ne_zero (show V.2.2.2.2 ≠ 0 by omega)
  obtain ⟨m', hm'⟩ := Nat.exists_eq_succ_of_ne_zero (show m ≠ 0 by omega)
  unfold hF_J23_stringSize hB_J23_stringSize_11
  rw [hm, hm']
  cases r with
  | none => rfl
  | some x =>
    have hx := hr x rfl
    show (if nI x < 0 then _ else hL_J23_stringSize_16 V (m'.succ.succ) G nx (-nI x) 0 (-10) 1) = _
    rw [if_neg (nI_pos (by omega)), hL_J23_stringSize_16, if_neg (by decide)]
    have key : ∀ x, x < 100 → ((-nI x ≤ (-10 : Int32)) ↔ 10 ≤ x) ∧ ¬ (-nI x ≤ (10 * (-10) : Int32)) := by decide +kernel
    by_cases c : x < 10
    · rw [if_neg (fun z => by have := (key x hx).1.mp z; omega)]
      unfold dgt dg; simp only [if_pos c]; rfl
    · rw [if_pos ((key x hx).1.mpr (by omega)), hL_J23_stringSize_16, if_neg (by decide), if_neg (key x hx).2]
      unfold dgt dg; simp only [if_neg c]; rfl
theorem getChars_at {r : Option Nat} {f : Nat → Int32} {p : Nat} (hV : 200 ≤ V.2.2.2.2) (hD : Dgt V G) (hr : ∀ x, r = some x → x < 100) (hd : G d = some (.inl (V.2.1 1, n, .inl f))) (hb : V.1 ≤ d) (hn : n < 2000) (hp : p + (dgt r).length ≤ n) (hff : ∀ i, i < n → fits .byte (.int (f i)) = true) :
    wH (hF_J23_getChars V G nx (tell r) (nI (p + (dgt r).length)) (some d)) (fun _ G' c s => c = 0 ∧ s = 0 ∧ (∃ f', G' d = some (.inl (V.2.1 1, n, .inl f')) ∧ (∀ i, i < p → f' i = f i) ∧ (∀ i (h : i < (dgt r).length), f' (p + i) = bt (dgt r)[i]) ∧ ∀ i, i < n → fits .byte (.int (f' i)) = true) ∧ ∀ b, b ≠ d → G' b = G b) := by
  obtain ⟨m, hm⟩ := Nat.exists_eq_succ_of_ne_zero (show V.2.2.2.2 ≠ 0 by omega)
  obtain ⟨⟨d1, f1, a1, a2, a3, a4⟩, d2, f2, b1, b2, b3, b4⟩ := hD
  have sm : ∀ k, 0 < k → nI k + (-1) = nI (k - 1) := fun k hk => by
    have := nI_sub (a := k) (b := 1) (by omega)
    rw [← this]; exact (Int32.sub_eq_add_neg _ _).symm
  have nar : ∀ c, c < 128 → vp_nar .byte (nI c) = bt c := fun c hc => rfl
  unfold hF_J23_getChars hB_J23_getChars_12
  rw [hm]
  cases r with
  | none =>
    have hp' : p + 2 ≤ n := hp
    refine w_neg (by decide) (w_neg (by decide) ?_)
    show wH (hL_J23_getChars_22 V (m.succ) G nx (-5) (some d) (nI (p + 2)) 1) _
    rw [hL_J23_getChars_22]
    refine w_pos (by decide) (w_bind a1 (w_rdI a3 (gd_nI (k := 5) (by decide) (by decide)) (w_some ?_)))
    rw [a4 5 (by decide), sm _ (by omega)]
    refine w_wrI hd hb (gd_nI (show p + 2 - 1 < n by omega) (by omega)) (w_pos (by decide) ?_)
    unfold hB_J23_getChars_104 hB_J23_getChars_118
    refine w_neg (by decide) (w_some ?_)
    rw [sm _ (by omega)]
    refine w_wrI (gset_eq _ _ _) hb (gd_nI (show p + 2 - 1 - 1 < n by omega) (by omega)) (w_ret ?_)
    refine ⟨rfl, rfl, ⟨_, gset_eq _ _ _, fun i hi => ?_, fun i hi => ?_, fun i hi => ?_⟩, fun b hb => by simp only [gset_ne _ _ hb]⟩
    · unfold upd; rw [if_neg (by omega), if_neg (by omega)]
    · have : i = 0 ∨ i = 1 := by simp [dgt] at hi; omega
      rcases this with rfl | rfl
      · unfold upd; rw [if_pos (by omega)]; rfl
      · unfold upd; rw [if_neg (by omega), if_pos (by omega)]; rfl
    · unfold upd
      by_cases c1 : i = p + 2 - 1 - 1
      · rw [if_pos c1]; exact nar_fits _
      · rw [if_neg c1]
        by_cases c2 : i = p + 2 - 1
        · rw [if_pos c2]; exact nar_fits _
        · rw [if_neg c2]; exact hff i hi
  | some x =>
    have hx := hr x rfl
    have neg : ∀ x, x < 100 → (-100 : Int32) < -nI x ∧ (-(-nI x)) = nI x ∧ ((-9 : Int32) ≤ -nI x ↔ x < 10) := by decide +kernel
    obtain ⟨n1, n2, n3⟩ := neg x hx
    refine w_pos (nI_pos' (by omega)) (w_pos rfl ?_)
    show wH (hL_J23_getChars_22 V (m.succ) G nx (-nI x) (some d) (nI (p + (dg x).length)) 0) _
    rw [hL_J23_getChars_22]
    refine w_pos n1 (w_bind a1 ?_)
    rw [n2]
    refine w_rdI a3 (gd_nI hx (by omega)) (w_some ?_)
    have hp0 : p + (dg x).length ≤ n := hp
    have hl := dgt_len (r := some x)
    have hl : 1 ≤ (dg x).length ∧ (dg x).length ≤ 2 := hl
    rw [a4 x hx, sm _ (by omega)]
    refine w_wrI hd hb (gd_nI (show p + (dg x).length - 1 < n by omega) (by omega)) ?_
    by_cases c : x < 10
    · have e : dg x = [48 + x] := by unfold dg; rw [if_pos c]
      refine w_pos (n3.mpr c) ?_
      unfold hB_J23_getChars_104 hB_J23_getChars_118
      refine w_pos rfl (w_ret ?_)
      refine ⟨rfl, rfl, ⟨_, gset_eq _ _ _, fun i hi => ?_, fun i hi => ?_, fun i hi => ?_⟩, fun b hb => by simp only [gset_ne _ _ hb]⟩
      · unfold upd; rw [if_neg (by omega)]
      · have hi : i < (dg x).length := hi
        have : i = 0 := by rw [e] at hi; simp at hi; exact hi
        subst this
        unfold upd
        rw [if_pos (by rw [e]; simp)]
        refine (nar _ (by omega)).trans (congrArg bt ?_)
        rw [Nat.mod_eq_of_lt c]; simp [dgt, e]
      · unfold upd
        by_cases c1 : i = p + (dg x).length - 1
        · rw [if_pos c1]; exact nar_fits _
        · rw [if_neg c1]; exact hff i hi
    · have e : dg x = [48 + x / 10, 48 + x % 10] := by unfold dg; rw [if_neg c]
      have el : (dg x).length = 2 := by rw [e]; rfl
      refine w_neg (fun z => c (n3.mp z)) (w_bind b1 ?_)
      refine w_rdI (cA := V.2.1 1) (n := 100) (f := f2) (by rw [gset_ne _ _ (by omega)]; exact b3) (gd_nI hx (by decide)) ?_
      rw [b4 x hx, sm _ (by omega)]
      refine w_wrI (gset_eq _ _ _) hb (gd_nI (show p + (dg x).length - 1 - 1 < n by omega) (by omega)) ?_
      unfold hB_J23_getChars_104 hB_J23_getChars_118
      refine w_pos rfl (w_ret ?_)
      refine ⟨rfl, rfl, ⟨_, gset_eq _ _ _, fun i hi => ?_, fun i hi => ?_, fun i hi => ?_⟩, fun b hb => by simp only [gset_ne _ _ hb]⟩
      · unfold upd; rw [if_neg (by omega), if_neg (by omega)]
      · have hi : i < (dg x).length := hi
        have : i = 0 ∨ i = 1 := by omega
        rcases this with rfl | rfl
        · unfold upd; rw [if_pos (by omega)]
          exact (nar _ (by omega)).trans (congrArg bt (by simp [dgt, e]))
        · unfold upd; rw [if_neg (by omega), if_pos (by omega)]
          exact (nar _ (by omega)).trans (congrArg bt (by simp [dgt, e]))
      · unfold upd
        by_cases c1 : i = p + (dg x).length - 1 - 1
        · rw [if_pos c1]; exact nar_fits _
        · rw [if_neg c1]
          by_cases c2 : i = p + (dg x).length - 1
          · rw [if_pos c2]; exact nar_fits _
          · rw [if_neg c2]; exact hff i hi
theorem sb_int {r : Option Nat} (hV : 200 ≤ V.2.2.2.2) (hD : Dgt V G) (h : SBc V G o d n l) (hn : n ≤ 400) (hr : ∀ x, r = some x → x < 100) (ho : o < nx) (hd : d < nx) : wH (hF_J6_append_3 V G nx o (tell r)) (fun _ => growQ V G o d n nx (l.length + (dgt r).length) (l ++ dgt r)) := by
  have h0 := h
  have hl2 := dgt_len (r := r)
  obtain ⟨ml, f, h1, h2, h3, h4, h5, h6, h7, h8, h9, h10, h11⟩ := h
  unfold hF_J6_append_3 hF_J5_append_3
  refine w_pos (gC_at h1) ?_
  apply w_cB
  refine w_xI h1 rfl rfl (w_call0 (ssize_at hV hr) (w_pos (gC_at h1) ?_))
  rw [nI_add]
  refine w_call (sb_ens (nx := nx + 0) h0 (by omega) hn ho hd) ?_
  rintro - G1 c1 s1 ⟨⟨d', n', q1, q2, q3⟩, q4⟩
  have q1' := q1
  obtain ⟨ml1, f1, g1, g2, g3, g4, g5, g6, g7, g8, g9, g10, g11⟩ := q1'
  refine w_pos (gC_at g1) (w_call0 (sb_latin q1) (w_neg (by decide) (w_xR g1 rfl rfl ?_)))
  refine w_call (getChars_at (p := l.length) hV (hD.keep (fun a ha => q4 a (by omega) (by omega) (by omega))) hr g2 g7 (by omega) q2 g5) ?_
  rintro - G2 c2 s2 ⟨rfl, rfl, ⟨f', t1, t2, t3, t4⟩, t5⟩
  refine w_xF (c := 24) (fs := [va_rf (some d'), .int 0, .int ml1, .int (nI l.length)]) (by rw [t5 o g8]; exact g1) rfl (Nat.le_of_ble_eq_true rfl) g6 rfl (w_ret (w_ret ?_))
  refine ⟨⟨d', n', ⟨ml1, f', ?_, by rw [gset_ne _ _ (Ne.symm g8)]; exact t1, by rw [List.length_append]; exact q2, fun i hi => ?_, t4, g6, g7, g8, g9, g10, ?_⟩, q2, by simpa using q3⟩, fun b b1 b3 b2 => ?_⟩
  · rw [gset_eq, List.length_append]; rfl
  · by_cases ci : i < l.length
    · rw [List.getElem_append_left ci, t2 i ci]; exact g4 i ci
    · rw [List.length_append] at hi
      rw [List.getElem_append_right (by omega)]
      have := t3 (i - l.length) (by omega)
      rw [← this]; congr 1; omega
  · intro y hy
    rcases List.mem_append.mp hy with hy | hy
    · exact h11 y hy
    · cases r with
      | none => simp [dgt] at hy; omega
      | some x =>
        have := hr x rfl
        simp only [dgt, dg] at hy
        split at hy <;> simp at hy <;> omega
  · have w : b ≠ d' := by rcases q3 with q3 | q3 <;> omega
    rw [gset_ne _ _ b1, t5 b w]; exact q4 b b1 b3 b2
end B

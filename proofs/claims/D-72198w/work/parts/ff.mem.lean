/-! PURE FF: the model's findMemories -/
def oI (o : Option Nat) : Int32 := match o with
  | none => -9
  | some j => nI j
theorem nI_n9 {j : Nat} (h : j < 2 ^ 31) : ¬ nI j = -9 := fun z => by
  have h0 := nI_pos (n := j) h
  rw [z] at h0
  exact h0 (by decide)
theorem nI_n5 {j : Nat} (h : j < 2 ^ 31) : ¬ nI j = -5 := fun z => by
  have h0 := nI_pos (n := j) h
  rw [z] at h0
  exact h0 (by decide)
theorem ixL_at {l : List Nat} {j y : Nat} (hn : l.Nodup) (h : l[j]? = some y) : ixL l y = some j := by
  obtain ⟨h1, h2⟩ := List.getElem?_eq_some_iff.mp h
  obtain ⟨i, hi⟩ := ixL_mem (h2 ▸ List.getElem_mem h1 : y ∈ l)
  obtain ⟨i1, i2⟩ := ixL_some hi
  obtain ⟨i3, i4⟩ := List.getElem?_eq_some_iff.mp i1
  rw [hi, (List.getElem_inj hn).mp (i4.trans h2.symm)]
theorem upd_eq {f : Nat → Int32} {j : Nat} {v : Int32} : upd f j v j = v := if_pos rfl
theorem upd_ne {f : Nat → Int32} {i j : Nat} {v : Int32} (h : i ≠ j) : upd f j v i = f i := if_neg h
def MMe (mem plo : Nat → Int32) (l : List Nat) : Prop := (∀ i, i < l.length → mem i = nI (l.getD i 0)) ∧ (∀ m, m < 64 → plo m = oI (ixL l m)) ∧ l.Nodup ∧ ∀ y ∈ l, y < 64
def MNp (rs : List Ru) (np : Nat → Int32) (l : List Nat) (i s : Nat) : Prop := (pM rs (l.getD i 0) s = 0 → ∃ j, np (5 * i + s) = nI j ∧ l[j]? = some (pB rs (l.getD i 0) s)) ∧ (pM rs (l.getD i 0) s ≠ 0 → np (5 * i + s) = -5)
def NpI (rs : List Ru) (np : Nat → Int32) (l : List Nat) (b : Nat) : Prop := ∀ i s, s < 5 → 5 * i + s < b → i < l.length → MNp rs np l i s
theorem getD_app {l t : List Nat} {i : Nat} (hi : i < l.length) : (l ++ t).getD i 0 = l.getD i 0 := by
  simp only [List.getD_eq_getElem?_getD, List.getElem?_append_left hi]
theorem getD_of {l : List Nat} {i y : Nat} (h : l[i]? = some y) : l.getD i 0 = y := by
  rw [List.getD_eq_getElem?_getD, h]; rfl
theorem MNp.ext {rs : List Ru} {np : Nat → Int32} {l t : List Nat} {i s : Nat} (hi : i < l.length) (h : MNp rs np l i s) : MNp rs np (l ++ t) i s := by
  unfold MNp
  rw [getD_app hi]
  refine ⟨fun h0 => ?_, h.2⟩
  obtain ⟨j, j1, j2⟩ := h.1 h0
  exact ⟨j, j1, by rw [List.getElem?_append_left (List.getElem?_eq_some_iff.mp j2).1]; exact j2⟩
section X
variable {N : Nat} {x : Nat → Int32} {rs : List Ru}
theorem placeFor_m {mem plo : Nat → Int32} {l : List Nat} {y : Nat} (h : MMe mem plo l) (hy : y < 64) : ∃ mem' plo' j, mF_placeFor N (nI y) mem plo (nI l.length) = some (nI j, mem', plo', nI (addN l y).length) ∧ MMe mem' plo' (addN l y) ∧ (addN l y)[j]? = some y := by
  have h0 := h
  obtain ⟨h1, h2, h3, h4⟩ := h
  unfold mF_placeFor mB_placeFor_41
  rw [gd_nI hy (by omega)]
  simp only [Option.bind_some]
  rw [h2 y hy]
  by_cases c : y ∈ l
  · obtain ⟨j, hj⟩ := ixL_mem c
    have hl := ixL_some hj
    have h64 := len64 h3 h4
    have ea : addN l y = l := if_pos c
    rw [hj, ea, if_neg (show ¬ oI (some j) = -9 from nI_n9 (by omega))]
    exact ⟨mem, plo, j, rfl, h0, hl.1⟩
  · have hl64 := nd_lt h3 h4 hy c
    have ea : addN l y = l ++ [y] := if_neg c
    have hnd := addN_nd (x := y) h3
    rw [ea] at hnd ⊢
    rw [show ixL l y = none from if_neg c, if_pos (show oI none = -9 from rfl), gd_nI hl64 (by omega)]
    simp only [Option.bind_some]
    refine ⟨upd mem l.length (nI y), upd plo y (nI l.length), l.length, by rw [upd_eq, nI_1, List.length_append, List.length_singleton], ⟨fun i hi => ?_, fun m hm => ?_, hnd, fun z hz => ?_⟩, by simp⟩
    · by_cases ci : i = l.length
      · subst ci; rw [upd_eq]; simp
      · have hi' : i < l.length := by (simp at hi; omega)
        rw [upd_ne ci, h1 i hi', getD_app hi']
    · rw [ixL_app c]
      unfold va_up
      by_cases cm : m = y
      · rw [if_pos cm, cm, upd_eq]; rfl
      · rw [if_neg cm, upd_ne cm]; exact h2 m hm
    · rcases List.mem_append.mp hz with w | w
      · exact h4 z w
      · rw [List.mem_singleton.mp w]; exact hy
theorem sign_m (hN : 600 ≤ N) (hr : MRu x rs) (hok : RsOk rs) {k p : Nat} {k35 : Int32 → (Nat → Int32) → (Nat → Int32) → (Nat → Int32) → Int32 → Option ((Nat → Int32) × (Nat → Int32) × (Nat → Int32) × Int32)} : ∀ (n s f : Nat) (mem plo np : Nat → Int32) (l : List Nat), s + n = 5 → n < f → MMe mem plo l → l[k]? = some p → NpI rs np l (5 * k + s) → ∃ mem' plo' np', mL_findMemories_45 N x k35 f (nI k) (nI s) mem plo np (nI l.length) = k35 (nI (k + 1)) mem' plo' np' (nI (stF rs p l (List.range' s n)).length) ∧ MMe mem' plo' (stF rs p l (List.range' s n)) ∧ NpI rs np' (stF rs p l (List.range' s n)) (5 * (k + 1)) := by
  intro n
  induction n with
  | zero =>
    intro s f mem plo np l hs hf hM hk hI
    obtain ⟨f, rfl⟩ : ∃ z, f = z + 1 := ⟨f - 1, by omega⟩
    have : s = 5 := by omega
    subst this
    unfold mL_findMemories_45
    rw [if_pos (show (5 : Int32) ≤ nI 5 from by decide), nI_1]
    exact ⟨mem, plo, np, rfl, hM, hI⟩
  | succ n ih =>
    intro s f mem plo np l hs hf hM hk hI
    obtain ⟨f, rfl⟩ : ∃ z, f = z + 1 := ⟨f - 1, by omega⟩
    obtain ⟨hkl, hkp⟩ := List.getElem?_eq_some_iff.mp hk
    have h64 := len64 hM.2.2.1 hM.2.2.2
    have hp64 : p < 64 := hM.2.2.2 p (hkp ▸ List.getElem_mem hkl)
    have hg := getD_of hk
    have h3 := hok.2.1
    have hm := pM_lt rs p s
    have hm3 : 2 ^ rs.length ≤ 2 ^ 3 := Nat.pow_le_pow_right (by decide) h3
    unfold mL_findMemories_45 mB_findMemories_93
    rw [if_neg (show ¬ (5 : Int32) ≤ nI s from nI_ge (b := 5) (by omega) (by omega)), gd_nI (by omega) (by omega)]
    simp only [Option.bind_some]
    rw [hM.1 k hkl, hg, metBy_m hN hr hok hp64 (by omega), nextBy_m hN hr hok hp64 (by omega), show (5 : Int32) * nI k + nI s = nI (5 * k + s) from by rw [show (5 : Int32) = nI 5 from rfl, nI_mul, nI_add], gd_nI (show 5 * k + s < 320 by omega) (by omega), nI_1]
    simp only [Option.bind_some]
    rw [List.range'_succ]
    show ∃ mem' plo' np', _ = k35 _ mem' plo' np' (nI (stF rs p (stP rs p l s) (List.range' (s + 1) n)).length) ∧ MMe mem' plo' (stF rs p (stP rs p l s) (List.range' (s + 1) n)) ∧ NpI rs np' (stF rs p (stP rs p l s) (List.range' (s + 1) n)) (5 * (k + 1))
    by_cases c0 : pM rs p s = 0
    · rw [if_pos (show nI (pM rs p s) = 0 by rw [c0]; rfl)]
      obtain ⟨mem', plo', j, e, hM', hj⟩ := placeFor_m (N := N) hM (pB64 hok.2.2 p s)
      rw [e]
      simp only [Option.bind_some]
      have es : stP rs p l s = addN l (pB rs p s) := if_pos c0
      rw [es]
      obtain ⟨t, ht⟩ := addN_pre l (pB rs p s)
      refine ih (s + 1) f mem' plo' (upd np (5 * k + s) (nI j)) (addN l (pB rs p s)) (by omega) (by omega) hM' (by rw [ht, List.getElem?_append_left hkl]; exact hk) (fun i s' hs' hlt hi => ?_)
      by_cases ci : 5 * i + s' = 5 * k + s
      · have e1 : i = k := by omega
        have e2 : s' = s := by omega
        subst e1; subst e2
        unfold MNp
        rw [upd_eq, show (addN l (pB rs p s')).getD i 0 = p by rw [ht, getD_app hkl]; exact hg]
        exact ⟨fun _ => ⟨j, rfl, hj⟩, fun z => absurd c0 z⟩
      · have hil : i < l.length := by omega
        have := hI i s' hs' (by omega) hil
        have h2 := this.ext (t := t) hil
        rw [← ht] at h2
        unfold MNp at h2 ⊢
        rw [upd_ne ci]; exact h2
    · rw [if_neg (nI_ne0 (by omega) (by omega))]
      have es : stP rs p l s = l := if_neg c0
      rw [es]
      refine ih (s + 1) f mem plo (upd np (5 * k + s) (-5)) l (by omega) (by omega) hM hk (fun i s' hs' hlt hi => ?_)
      by_cases ci : 5 * i + s' = 5 * k + s
      · have e1 : i = k := by omega
        have e2 : s' = s := by omega
        subst e1; subst e2
        unfold MNp
        rw [upd_eq, hg]
        exact ⟨fun z => absurd z c0, fun _ => rfl⟩
      · have := hI i s' hs' (by omega) hi
        unfold MNp at this ⊢
        rw [upd_ne ci]; exact this
theorem place_m (hN : 600 ≤ N) (hr : MRu x rs) (hok : RsOk rs) : ∀ (j k f : Nat) (mem plo np : Nat → Int32) (l : List Nat), k + j = 64 → j < f → k ≤ l.length → MMe mem plo l → NpI rs np l (5 * k) → ∃ mem' plo' np', mL_findMemories_35 N x f (nI k) mem plo np (nI l.length) = some (mem', plo', np', nI (bfsL rs j k l).length) ∧ MMe mem' plo' (bfsL rs j k l) ∧ NpI rs np' (bfsL rs j k l) (5 * (bfsL rs j k l).length) := by
  intro j
  induction j with
  | zero =>
    intro k f mem plo np l hj hf hk hM hI
    obtain ⟨f, rfl⟩ : ∃ z, f = z + 1 := ⟨f - 1, by omega⟩
    have h64 := len64 hM.2.2.1 hM.2.2.2
    have e : l.length = k := by omega
    unfold mL_findMemories_35
    rw [if_pos (nI_le (by omega) (by omega))]
    exact ⟨mem, plo, np, rfl, hM, by rw [show (bfsL rs 0 k l) = l from rfl, e]; exact hI⟩
  | succ j ih =>
    intro k f mem plo np l hj hf hk hM hI
    obtain ⟨f, rfl⟩ : ∃ z, f = z + 1 := ⟨f - 1, by omega⟩
    have h64 := len64 hM.2.2.1 hM.2.2.2
    unfold mL_findMemories_35
    cases ek : l[k]? with
    | none =>
      have e : l.length = k := by
        have := List.getElem?_eq_none_iff.mp ek
        omega
      have eb : bfsL rs (j + 1) k l = l := by rw [bfsL, ek]
      rw [if_pos (nI_le (by omega) (by omega)), eb]
      exact ⟨mem, plo, np, rfl, hM, by rw [e]; exact hI⟩
    | some p =>
      have eb : bfsL rs (j + 1) k l = bfsL rs j (k + 1) (stF rs p l (List.range' 0 5)) := by rw [bfsL, ek]
      have hkl := (List.getElem?_eq_some_iff.mp ek).1
      rw [if_neg (nI_ge (by omega) (by omega)), eb]
      obtain ⟨mem', plo', np', e, hM', hI'⟩ := sign_m hN hr hok (k35 := mL_findMemories_35 N x f) 5 0 N mem plo np l rfl (by omega) hM ek hI
      obtain ⟨tt, htt⟩ := stF_pre rs p (List.range' 0 5) l
      rw [show (0 : Int32) = nI 0 from rfl, e]
      exact ih (k + 1) f mem' plo' np' _ (by omega) (by omega) (by rw [htt, List.length_append]; omega) hM' hI'
theorem mem_m (hN : 600 ≤ N) (hr : MRu x rs) (hok : RsOk rs) {m0 p0 n0 : Nat → Int32} {q0 : Int32} : ∃ mem plo np, mF_findMemories N x m0 p0 n0 q0 = some (mem, plo, np, nI (plcs rs).length) ∧ MMe mem plo (plcs rs) ∧ ∀ i s, i < (plcs rs).length → s < 5 → np (5 * i + s) = tell (ldP rs (plcs rs) i s) := by
  have loop : ∀ (m k f : Nat) (p0 : Nat → Int32), k + m = 64 → m < f → (∀ i, i < k → p0 i = -9) → ∃ p', mL_findMemories_2 N x f (nI k) m0 p0 n0 q0 = (mF_placeFor N 0 m0 p' 0).bind (fun y15 => mL_findMemories_35 N x N y15.1 y15.2.1 y15.2.2.1 n0 y15.2.2.2) ∧ ∀ i, i < 64 → p' i = -9 := by
    intro m
    induction m with
    | zero =>
      intro k f p0 hk hf hp
      obtain ⟨f, rfl⟩ : ∃ z, f = z + 1 := ⟨f - 1, by omega⟩
      unfold mL_findMemories_2
      rw [if_pos (show (64 : Int32) ≤ nI k from nI_le (a := 64) (by omega) (by omega))]
      exact ⟨p0, rfl, fun i hi => hp i (by omega)⟩
    | succ m ih =>
      intro k f p0 hk hf hp
      obtain ⟨f, rfl⟩ : ∃ z, f = z + 1 := ⟨f - 1, by omega⟩
      unfold mL_findMemories_2
      rw [if_neg (show ¬ (64 : Int32) ≤ nI k from nI_ge (b := 64) (by omega) (by omega)), gd_nI (by omega) (by omega), nI_1]
      simp only [Option.bind_some]
      refine ih (k + 1) f _ (by omega) (by omega) (fun i hi => ?_)
      by_cases c : i = k
      · rw [c, upd_eq]
      · rw [upd_ne c]; exact hp i (by omega)
  obtain ⟨p', e, hp⟩ := loop 64 0 N p0 (by omega) (by omega) (fun i hi => by omega)
  have hM0 : MMe m0 p' [] := ⟨fun i hi => absurd hi (by simp), fun m hm => by rw [hp m hm]; rfl, by simp, by simp⟩
  obtain ⟨mem1, plo1, j, e1, hM1, hj⟩ := placeFor_m (N := N) hM0 (show 0 < 64 by omega)
  have ea : addN [] 0 = [0] := rfl
  rw [ea] at e1 hM1 hj
  have hj0 : j = 0 := by
    have := (List.getElem?_eq_some_iff.mp hj).1
    simp at this; exact this
  subst hj0
  obtain ⟨mem, plo, np, e2, hM2, hI2⟩ := place_m hN hr hok 64 0 N mem1 plo1 n0 [0] rfl (by omega) (by simp) hM1 (fun i s h1 h2 => by omega)
  refine ⟨mem, plo, np, ?_, hM2, fun i s hi hs => ?_⟩
  · unfold mF_findMemories
    rw [show mL_findMemories_2 N x N 0 m0 p0 n0 q0 = _ from e, show mF_placeFor N 0 m0 p' 0 = _ from e1]
    exact e2
  · have hMp : MNp rs np (plcs rs) i s := hI2 i s hs (by show 5 * i + s < 5 * (plcs rs).length; omega) hi
    have hnd : (plcs rs).Nodup := hM2.2.2.1
    unfold ldP
    by_cases c0 : pM rs ((plcs rs).getD i 0) s = 0
    · obtain ⟨j, j1, j2⟩ := hMp.1 c0
      rw [if_pos c0, ixL_at hnd j2, j1]; rfl
    · rw [if_neg c0, hMp.2 c0]; rfl
end X

/-! PURE 42: the map of texts: put -/
section M
variable {V : HEn} {G : Gh} {o nx ik id : Nat} {F : Nat → Prop} {K : List (List Nat)} {s : List Nat} {st : Prop}
abbrev SmQ (V : HEn) (G : Gh) (o nx ik id : Nat) (F : Nat → Prop) (K : List (List Nat)) (s : List Nat) : Option Nat → Gh → Nat → Nat → Prop := fun _ G' c s' => c ≤ K.length + 4 ∧ s' ≤ 11 * K.length + 176 ∧ SMap V G' o (fun b => F b ∨ b = ik ∨ b = id ∨ (nx ≤ b ∧ b < nx + c)) (K ++ [s]) ∧ Str V G' ik id s True ∧ ∀ b, ¬ F b → b ≠ ik → b < nx → G' b = G b
/-- from what a put ends with to the map of texts -/
theorem SPut.toM {G1 G' : Gh} {td c0 c s0 s' : Nat} {N : Nat → Prop} {D : Nat → Int32 × Option Nat × Option Nat} {ko kd : Nat → Nat} {ks : Nat → List Nat} {v r : Option Nat} (h : SPut V G1 o td (nx + c0) N D ko kd ks K.length K.length ik id s v r G' c s') (hc0 : c0 ≤ 1) (hs0 : s0 ≤ 16) (ho : F o) (hob : V.1 ≤ o) (htb : V.1 ≤ td) (hnd : K.Nodup) (hsK : s ∉ K) (hN : ∀ a, N a → V.1 ≤ a) (htd : F td ∨ (nx ≤ td ∧ td < nx + c0)) (hNF : ∀ a, N a → F a ∧ F (ko a) ∧ F (kd a)) (hJ : ∀ a, N a → ∃ j, K[j]? = some (ks a) ∧ IsInt V G (D a).2.2 j) (hA : ∀ s ∈ K, ∃ a, N a ∧ ks a = s) (hv : IsInt V G v K.length) (hbx : V.1 ≤ nx) (hbi : V.1 ≤ ik) (hG1 : ∀ b, b ≠ ik → b ≠ o → b < nx → G1 b = G b) : SmQ V G o nx ik id F K s r G' (c0 + c) (s0 + s') := by
  obtain ⟨rfl, q1, q2, q3, ⟨td', n', N', D', ko', kd', ks', tb', mc', z1, z2, z3, z4, z5, z6, a9, z7, z8⟩, q4⟩ := h
  have ne : ∀ a0, N a0 → ks a0 ≠ s := fun a0 ha e => by
    obtain ⟨j, j1, -⟩ := hJ a0 ha
    exact hsK (e ▸ List.mem_of_getElem? j1)
  have low : ∀ a, a < V.1 → G' a = G a := fun a ha => by
    rw [q4 a (fun w => by have := hN a w; omega) (by omega) (by omega) (by omega)]
    exact hG1 a (by omega) (by omega) (by omega)
  have hstr : Str V G' ik id s True := by
    rcases z5 a9 z7 with ⟨a0, w0, w1, -⟩ | ⟨w1, w2, w3, -⟩
    · exact absurd (w1.symm.trans z8) (ne a0 w0)
    · have := (z1.2.2.2.2.2.1 a9 z7).2.1
      rwa [w1, w2, w3] at this
  refine ⟨by omega, by omega, ⟨Or.inl ho, hob, ?_, Or.inr ⟨td', n', N', D', ko', kd', ks', tb', mc', ?_, ?_, ?_, fun a ha => ?_, fun a ha => ?_, fun t ht => ?_⟩⟩, hstr, fun b b1 b2 b3 => ?_⟩
  · rw [List.nodup_append]
    refine ⟨hnd, by simp, fun a ha b hb e => ?_⟩
    simp at hb
    exact hsK (hb ▸ e ▸ ha)
  · rw [List.length_append]; exact z1
  · rw [List.length_append]; exact z2
  · rcases z3 with w | w
    · rw [w]
      rcases htd with y | y
      · exact Or.inl y
      · exact Or.inr (Or.inr (Or.inr (by omega)))
    · exact Or.inr (Or.inr (Or.inr (by omega)))
  · refine ⟨?_, ?_⟩
    · rcases z4 a ha with w | w
      · exact Or.inl (hNF a w).1
      · exact Or.inr (Or.inr (Or.inr (by omega)))
    · rcases z5 a ha with ⟨a0, w0, -, w1, w2, -⟩ | ⟨-, w1, w2, -⟩
      · rw [w1, w2]; exact ⟨Or.inl (hNF a0 w0).2.1, Or.inl (hNF a0 w0).2.2⟩
      · rw [w1, w2]; exact ⟨Or.inr (Or.inl rfl), Or.inr (Or.inr (Or.inl rfl))⟩
  · rcases z5 a ha with ⟨a0, w0, w1, -, -, w2⟩ | ⟨w1, -, -, w2⟩
    · obtain ⟨j, j1, j2⟩ := hJ a0 w0
      refine ⟨j, ?_, by rw [w2]; exact j2.keep low⟩
      rw [w1, List.getElem?_append_left (List.getElem?_eq_some_iff.mp j1).1]; exact j1
    · refine ⟨K.length, ?_, by rw [w2]; exact hv.keep low⟩
      rw [w1]; simp
  · rcases List.mem_append.mp ht with w | w
    · obtain ⟨a0, w1, w2⟩ := hA t w
      obtain ⟨a, w3, w4⟩ := z6 a0 w1
      exact ⟨a, w3, w4.trans w2⟩
    · simp at w
      exact ⟨a9, z7, z8.trans w.symm⟩
  · have b0 : b ≠ o := fun w => b1 (w ▸ ho)
    rw [q4 b (fun w => b1 (hNF b w).1) b0 (fun w => by
      rcases htd with y | y
      · exact b1 (w ▸ y)
      · omega) (by omega)]
    exact hG1 b b2 b0 b3
theorem SMap.put {v : Option Nat} (hV : 1200 ≤ V.2.2.2.2) (h : SMap V G o F K) (hK : K.length < 48) (hk : Str V G ik id s st) (hb : V.1 ≤ ik) (hs : s ∉ K) (hF : ∀ a, F a → a < nx) (hi1 : ik < nx) (hi2 : id < nx) (hi3 : ¬ F ik) (hi4 : ¬ F id) (hv : IsInt V G v K.length) : wH (hF_J39_put V G nx o (some ik) v) (SmQ V G o nx ik id F K s) := by
  have h0 := h
  obtain ⟨e1, e2, e3, e4⟩ := h
  have hon := hF o e1
  unfold hF_J39_put
  obtain ⟨r0, G1, c1, s1, hh, rfl, rfl, rfl, k1, k2⟩ := str_spr0 (nx := nx) hV hk hb
  have neF : ∀ x, F x → x ≠ ik := fun x hx z => hi3 (z ▸ hx)
  have h1 : SMap V G1 o F K := h0.keep (fun a ha => k2 a (neF a ha)) (fun a ha => k2 a (by omega))
  refine w_call0 hh (w_pos h1.any ?_)
  refine w_call (Q' := SmQ V G o nx ik id F K s) ?_ (fun r G' c s hq => w_ret hq)
  have hG1 : ∀ b, b ≠ ik → b ≠ o → b < nx → G1 b = G b := fun b b1 _ _ => k2 b b1
  obtain ⟨-, -, -, e4'⟩ := h1
  unfold hF_J39_putVal
  rcases e4' with ⟨mc, q1, q2⟩ | ⟨td, n, N, D, ko, kd, ks, tb, mc, q1, q2, q3, q4, q5, q6⟩
  · refine w_hT q1 (w_pos rfl ?_)
    unfold hB_J39_putVal_19
    refine w_pos q1.cls ?_
    have hz : wH (hF_J39_resize V G1 (nx + 0) o) (fun r G' c s => r = some nx ∧ c = 1 ∧ s = 16 ∧ HMr V G' o 19 20 nx 16 (fun _ => False) (fun _ => 0) (fun _ => none) (fun _ => none) (fun _ => none) (fun _ => []) none 0 mc ∧ ∀ b, b ≠ o → b ≠ nx → G' b = G1 b) := by
      unfold hF_J39_resize hB_J39_resize_15 hB_J39_resize_85 hB_J39_resize_353
      refine w_hT q1 (w_pos rfl (w_hH q1 (w_pos (by decide) (w_pos (by decide) (w_neg (by decide) (w_hsH q1 e2 ?_))))))
      intro G2 t1 t2
      refine w_gn (n := 16) (by decide) (w_tick ?_)
      have t3 : HOb (gset G2 (nx + 0) (.inl (V.2.1 4, 16, .inr (.inr (.inr (.inr (fun _ => none))))))) o 19 none (nI 0) mc 12 none := t1.keep (gset_ne _ _ (by omega))
      refine w_hsT t3 e2 ?_
      intro G3 u1 u2
      refine w_pos rfl (w_ret ⟨rfl, rfl, rfl, ⟨u1, ⟨fun _ => none, by rw [u2 nx (by omega)]; exact gset_eq _ _ _, fun i _ => rfl⟩, fun a ha => ha.elim, fun i _ a => by simp, fun i _ => by simp, Or.inl rfl, e2, by omega, by omega, fun t ht => (by cases ht), Or.inl ⟨rfl, rfl⟩⟩, fun b b1 b2 => ?_⟩)
      rw [u2 b b1]; exact (gset_ne _ _ b2).trans (t2 b b1)
    refine w_call hz ?_
    rintro r G2 c s2 ⟨rfl, rfl, rfl, t1, t2⟩
    have kS : Str V G2 ik id s True := k1.keep (t2 ik (neF o e1).symm (by omega)) (t2 id (fun z => hi4 (z ▸ e1)) (by omega))
    obtain ⟨tb, w⟩ := HMr.toS (V := V) (G := G2) (D := fun _ => (0, none, none)) (ko := fun _ => 0) (kd := fun _ => 0) (ks := fun _ => []) (cap := 0) t1 (fun a ha => ha.elim) (fun a b ha => ha.elim) (fun a ha => ha.elim) ⟨[], by simp, fun a ha => ha.elim⟩
    have g9 := w.2.2.2.2.2.2.2.2.1
    refine w_some (w_aln g9 ?_)
    have hl : K.length = 0 := by rw [q2]; rfl
    refine w_mono (sm_29 (nx := nx + 0 + 1) (v := v) (ik := ik) (id := id) (s := s) ⟨hV, by omega, by omega, ⟨[], by simp, fun a ha => ha.elim⟩, by omega, by omega, fun a ha => ha.elim, kS, by omega, by omega, fun z => z, fun z => z, (neF o e1).symm, by omega, fun z => hi4 (z ▸ e1), by omega, fun a ha => ha.elim⟩ w) ?_
    intro r G' c s' hq
    refine SPut.toM (c0 := 1) (s0 := 16) (G1 := G2) (nx := nx) (td := nx) (N := fun _ => False) (by rw [hl]; exact hq) (by omega) (by omega) e1 e2 (by omega) e3 hs (fun a ha => ha.elim) (Or.inr ⟨by omega, by omega⟩) (fun a ha => ha.elim) (fun a ha => ha.elim) (fun t ht => by rw [q2] at ht; simp at ht) hv (by omega) hb (fun b b1 b2 b3 => ?_)
    rw [t2 b b2 (by omega)]; exact k2 b b1
  · have g9 := q1.2.2.2.2.2.2.2.2.1
    have hn : n ≤ 128 ∧ 16 ≤ n := by rcases q1.2.1 with rfl | rfl | rfl | rfl <;> decide
    refine w_hT q1.1 (w_neg (by simp) (w_some (w_aln g9 (w_neg (fun z => nI_ne0 (by omega) (by omega) z) ?_))))
    have hab : ∀ a, N a → ks a ≠ s := fun a ha e => by
      obtain ⟨j, j1, -⟩ := q5 a ha
      exact hs (e ▸ List.mem_of_getElem? j1)
    refine w_mono (sm_29 (nx := nx + 0) (v := v) (ik := ik) (id := id) (s := s) ⟨hV, by omega, by omega, q2, hon, hF td q3, fun a ha => ⟨hF _ (q4 a ha).1, hF _ (q4 a ha).2.1, hF _ (q4 a ha).2.2⟩, k1, hi1, hi2, fun z => hi3 (q4 _ z).1, fun z => hi4 (q4 _ z).1, (neF o e1).symm, (neF td q3).symm, fun z => hi4 (z ▸ e1), fun z => hi4 (z ▸ q3), hab⟩ q1) ?_
    intro r G' c s' hq
    have := SPut.toM (c0 := 0) (s0 := 0) (G := G) (G1 := G1) (nx := nx) (td := td) (N := N) hq (by omega) (by omega) e1 e2 q1.2.2.2.1 e3 hs (fun a ha => (q1.2.2.2.2.2.2.2.1 a ha).1) (Or.inl q3) q4 (fun a ha => ?_) q6 hv (by omega) hb hG1
    · rwa [Nat.zero_add, Nat.zero_add] at this
    · obtain ⟨j, j1, j2⟩ := q5 a ha
      exact ⟨j, j1, j2.keep (fun b hb' => (k2 b (by omega)).symm)⟩
end M

/-! PURE 48: Machine.parts, whole; Machine.one; Machine.comes -/
section X
variable {V : HEn} {G : Gh} {nx mo po bo bd pl so nu lo ld pa : Nat} {Ls ad : List Nat} {rs : List Ru} {F : Nat → Prop} {f : Nat → Int32} {pt : Nat → Nat}
theorem parts_at (hV : 1200 ≤ V.2.2.2.2) (hC : Cst V G) (hD : Dgt V G) (hM : G mo = some (mcell po bo pl (some pa) so nu)) (h : MPl V G po bo bd pl lo ld ad rs F Ls) (hL : MLow nx po bo bd pl lo ld ad F) (hmo : mo < nx) (hmb : V.1 ≤ mo) (hpl : pa < nx) (hpa : G pa = some (.inl (V.2.1 0, Ls.length, .inl f))) (hf : ∀ i, i < Ls.length → f i = nI (pt i) ∧ pt i < 100) (hb : V.1 ≤ nx) (hcl : ∀ k (hk : k < Ls.length) s, s < 5 → pM rs Ls[k] s = 0 → pB rs Ls[k] s ∈ Ls) (hK : (kS (keyS rs Ls pt) Ls.length).length ≤ 40) :
    wH (hF_X8_parts V G nx mo) (fun r G' c s => r = nI (kS (keyS rs Ls pt) Ls.length).length ∧ c ≤ 2 + 15 * Ls.length + cS 40 ∧ s ≤ 8 + 121 * Ls.length + sS 40 ∧ (∃ na g, nx ≤ na ∧ na < nx + c ∧ G' mo = some (mcell po bo pl (some na) so nu) ∧ G' na = some (.inl (V.2.1 0, Ls.length, .inl g)) ∧ ∀ i, i < Ls.length → ∃ j, g i = nI j ∧ (kS (keyS rs Ls pt) Ls.length)[j]? = some (keyS rs Ls pt i)) ∧ ∀ b, b < nx → b ≠ mo → G' b = G b) := by
  have hlen := h.2.2.2.2
  have hKm := cS_mono hK
  unfold hF_X8_parts
  refine w_tick (w_call (SMap.new (by omega) (gset_eq _ _ _)) ?_)
  rintro - G1 c1 s1 ⟨rfl, rfl, t1, t2⟩
  have k1 : ∀ b, b ≠ nx → G1 b = G b := fun b hb' => by rw [t2 b hb']; exact gset_ne _ _ hb'
  refine w_xR (by rw [k1 mo (by omega)]; exact hM) rfl rfl (w_some (w_aln (by rw [k1 pa (by omega)]; exact hpa) (w_gn (by omega) (w_tick ?_))))
  have k2 : ∀ b, b ≠ nx → b ≠ nx + 1 → gset G1 (nx + 1 + 0) (.inl (V.2.1 0, Ls.length, .inl (fun _ => 0))) b = G b := fun b b1 b2 => by rw [gset_ne _ _ (by omega)]; exact k1 b b1
  refine w_mono (parts_loop (sm := nx) (na := nx + 1) hV hC hD hM h hL hmo hmb hpl hpa hf hb hcl (by omega) (by omega) hK Ls.length 0 V.2.2.2.2 _ (nx + 1 + 0 + 1) (fun b => b = nx) (fun _ => 0) (by omega) (by omega) (by omega) (by omega) (fun b hb' => k2 b (by omega) (by omega)) (t1.keep (fun a ha => gset_ne _ _ (by omega)) (fun a ha => gset_ne _ _ (by omega))) (fun b hb' => by omega) (by omega) (gset_eq _ _ _) (fun i hi => absurd hi (Nat.not_lt_zero _))) ?_
  rintro r G' c s ⟨q1, q2, q3, q4, ⟨g, q5, q6⟩, q7⟩
  simp only [kS, List.length_nil, cS, sS] at q2 q3
  exact ⟨q1, by omega, by omega, ⟨nx + 1, g, by omega, by omega, q4, q5, q6⟩, q7⟩
/-- the least place of a part -/
theorem one_at {x : Nat} (hV : 1200 ≤ V.2.2.2.2) (hM : G mo = some (mcell po bo pl (some pa) so nu)) (hpa : G pa = some (.inl (V.2.1 0, Ls.length, .inl f))) (hf : ∀ i, i < Ls.length → f i = nI (pt i) ∧ pt i < 100) (hl : Ls.length ≤ 64) (hx : x < 100) (he : ∃ k, k < Ls.length ∧ pt k = x) : ∃ k, hF_X8_one V G nx mo (nI x) = some (nI k, G, 0, 0) ∧ k < Ls.length ∧ pt k = x ∧ ∀ i, i < k → pt i ≠ x := by
  have loop : ∀ (j k m : Nat), k + j = Ls.length → j + 1 ≤ m → (∀ i, i < k → pt i ≠ x) → ∃ k', hL_X8_one_2 V mo m G nx (nI x) (nI k) = some (nI k', G, 0, 0) ∧ k' < Ls.length ∧ pt k' = x ∧ ∀ i, i < k' → pt i ≠ x := by
    intro j
    induction j with
    | zero =>
      intro k m hj hm hn
      obtain ⟨k0, a1, a2⟩ := he
      exact absurd a2 (hn k0 (by omega))
    | succ j ih =>
      intro k m hj hm hn
      obtain ⟨m, rfl⟩ := Nat.exists_eq_succ_of_ne_zero (show m ≠ 0 by omega)
      obtain ⟨f1, f2⟩ := hf k (by omega)
      rw [hL_X8_one_2, xR_at hM rfl rfl]
      show ∃ k', ((rdI G (V.2.1 0) pa (nI k)).bind _) = _ ∧ _
      rw [rdI_at hpa (gd_nI (show k < Ls.length by omega) (by omega)), f1]
      show ∃ k', (if nI (pt k) = nI x then some (nI k, G, 0, 0) else hL_X8_one_2 V mo m G nx (nI x) (nI k + 1)) = _ ∧ _
      by_cases c : pt k = x
      · rw [if_pos (by rw [c])]
        exact ⟨k, rfl, by omega, c, hn⟩
      · rw [if_neg (fun z => c ((nI_eq (by omega) (by omega)).mp z)), nI_1]
        refine ih (k + 1) m (by omega) (by omega) (fun i hi => ?_)
        by_cases ci : i = k
        · rw [ci]; exact c
        · exact hn i (by omega)
  unfold hF_X8_one
  exact loop Ls.length 0 V.2.2.2.2 (by omega) (by omega) (fun i hi => absurd hi (Nat.not_lt_zero _))
end X

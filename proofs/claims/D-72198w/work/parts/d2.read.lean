/-! PURE 89: StringBuilder.append(String); Fault; Reader's cells; tokens -/
theorem shl0k : ∀ k, k < 300 → nI k <<< ((0 : Int32) &&& 31) = nI k := by decide +kernel
section X
variable {V : HEn} {G : Gh} {nx o d n so sd : Nat} {l w : List Nat} {st : Prop}
theorem cpI_to {b0 : Nat} {cA : ClassId} {src dst n0 n1 m dp : Nat} {f g : Nat → Int32} (h0 : G src = some (.inl (cA, n0, .inl f))) (h1 : G dst = some (.inl (cA, n1, .inl g))) (hb : b0 ≤ dst) (hn : m ≤ n0) (hn1 : dp + m ≤ n1) (hs : n0 < 2 ^ 31) (hs1 : n1 < 2 ^ 31) (hok : ∀ i, i < m → fits .byte (.int (f i)) = true) : cpI b0 G cA src 0 dst (nI dp) (nI m) = some (gset G dst (.inl (cA, n1, .inl (va_cpy f g 0 dp m)))) := by
  unfold cpI
  rw [h0, h1]
  simp only
  have z : (0 : Int32).toNatClampNeg = 0 := rfl
  rw [nI_clamp (show dp < 2 ^ 31 by omega), nI_clamp (show m < 2 ^ 31 by omega), z, if_pos]
  refine ⟨trivial, trivial, hb, by decide, nI_pos (by omega), nI_pos (by omega), by omega, by omega, ?_⟩
  rw [List.all_eq_true]
  intro i hi
  rw [Nat.zero_add]
  exact hok i (List.mem_range.mp hi)
theorem sb_str (h : SBc V G o d n l) (k : Str V G so sd w st) (hm : l.length + w.length ≤ n) (hn : n ≤ 250) (ho : o < nx) (hd : d < nx) (hso : so < nx ∧ sd < nx ∧ sd ≠ d) : wH (hF_J6_append_2 V G nx o (some so)) (fun r G' c s => r = some o ∧ c = 0 ∧ s = 0 ∧ SBc V G' o d n (l ++ w) ∧ ∀ b, b ≠ o → b ≠ d → b < nx → G' b = G b) := by
  have hlat := fun G nx (h : SBc V G o d n l) => sb_latin (nx := nx) h
  obtain ⟨g, hh, z, b1, b2, b3, b4, b5, b6, -⟩ := id k
  obtain ⟨ml, f, a1, a2, a3, a4, a5, a6, a7, a8, a9, a10, a11⟩ := id h
  have sne : so ≠ o := hd_ne b1 a1 (by decide)
  have sdne : sd ≠ o := Ne.symm (hd_na a1 b2)
  have sode : so ≠ d := hd_na b1 a2
  unfold hF_J6_append_2 hF_J5_append_2
  refine w_pos (gC_at a1) ?_
  apply w_cB
  refine w_neg (by simp) (w_some (w_pos (gC_at b1) (w_call0 (str_length k) (w_xI a1 rfl rfl (w_pos (gC_at a1) ?_)))))
  rw [nI_add]
  refine w_call (sb_ens h (by omega) (by omega) (by omega) (by omega)) ?_
  rintro - G1 c1 s1 ⟨⟨d1, n1, t1, t2, t3⟩, t4⟩
  obtain ⟨rfl, rfl, rfl, rfl⟩ : d1 = d ∧ n1 = n ∧ c1 = 0 ∧ s1 = 0 := by
    rcases t3 with w | w
    · exact w
    · omega
  have k1 : ∀ b, b < nx → b ≠ o → b ≠ d1 → G1 b = G b := fun b q1 q2 q3 => t4 b q2 q3 (by omega)
  obtain ⟨ml1, f1, a1', a2', a3', a4', a5', -⟩ := id t1
  have hk1 : G1 so = some (.inr (25, [va_rf (some sd), .int 0, .int hh, .int z])) := by rw [k1 so hso.1 sne sode]; exact b1
  refine w_xI a1' rfl rfl (w_pos (gC_at a1') ?_)
  unfold hF_J5_putStringAt hF_J5_inflateIfNeededFor hB_J5_inflateIfNeededFor_21
  apply w_cB
  refine w_pos (gC_at a1') ?_
  have hk2 : G1 sd = some (.inl (V.2.1 1, w.length, .inl g)) := by rw [k1 sd hso.2.1 sdne hso.2.2]; exact b2
  have kS : Str V G1 so sd w st := k.keep (by rw [hk1]; exact b1.symm) (by rw [hk2]; exact b2.symm)
  apply w_cB
  refine w_neg (by decide) (w_xI a1' rfl rfl (w_some (w_pos (gC_at hk1) (w_call0 (str_coder kS) (w_pos rfl (w_ret ?_))))))
  refine w_xR a1' rfl rfl (w_xI a1' rfl rfl (w_some (w_pos (gC_at hk1) ?_)))
  unfold hF_J7_getBytes hB_J7_getBytes_43
  apply w_cB
  refine w_pos (gC_at hk1) (w_call0 (str_coder kS) (w_pos rfl (w_xR hk1 rfl rfl (w_xR hk1 rfl rfl (w_some (w_aln hk2 (w_some (w_some ?_))))))))
  rw [shl0k l.length (by omega)]
  have hgf : ∀ i, i < w.length → fits .byte (.int (g i)) = true := fun i hi => by rw [b3 i hi]; exact bt_fits _
  refine w_bind (cpI_to hk2 a2' a7 (Nat.le_refl _) hm (by omega) (by omega) hgf) (w_ret (w_ret ?_))
  have hod : o ≠ d1 := a8
  refine w_xI (by rw [gset_ne _ _ hod]; exact a1') rfl rfl ?_
  rw [nI_add]
  refine w_xF (fs' := [va_rf (some d1), .int 0, .int ml1, .int (nI (l.length + w.length))]) (by rw [gset_ne _ _ hod]; exact a1') rfl (Nat.le_of_ble_eq_true rfl) a6 rfl (w_ret (w_ret ?_))
  refine ⟨rfl, rfl, rfl, ⟨ml1, va_cpy g f1 0 l.length w.length, by rw [List.length_append]; exact gset_eq _ _ _, by rw [gset_ne _ _ (Ne.symm hod)]; exact gset_eq _ _ _, by rw [List.length_append]; exact hm, fun i hi => ?_, fun i hi => ?_, a6, a7, a8, a9, a10, fun c hc => ?_⟩, fun b q1 q2 q3 => ?_⟩
  · unfold va_cpy
    by_cases ci : i < l.length
    · rw [if_neg (fun z => by omega), List.getElem_append_left ci]; exact a4' i ci
    · rw [List.length_append] at hi
      rw [if_pos (by omega), Nat.zero_add, List.getElem_append_right (by omega)]
      exact b3 _ (by omega)
  · unfold va_cpy
    split
    · rw [Nat.zero_add]; exact hgf _ (by omega)
    · exact a5' i hi
  · rcases List.mem_append.mp hc with z | z
    · exact a11 c z
    · exact b4 c z
  · rw [gset_ne _ _ q1, gset_ne _ _ q2]
    exact t4 b q1 q2 (by omega)
end X

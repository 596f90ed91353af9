/-! PURE 23: StringBuilder -/
def bt (c : Nat) : Int32 := (nI c).toInt8.toInt32
theorem bt_small : ∀ c, c < 128 → bt c = nI c := by decide +kernel
theorem bt_fits (c : Nat) : fits .byte (.int (bt c)) = true := pk_fb _
theorem nar_nar (x : Int32) : vp_nar .byte x.toInt8.toInt32 = x.toInt8.toInt32 := by
  rw [vp_nar_byte, Int8.toInt8_toInt32]
theorem nar_fits (x : Int32) : fits .byte (.int (vp_nar .byte x)) = true := by rw [vp_nar_byte]; exact pk_fb _
theorem sub_int {a b : Nat} (ha : a < 2 ^ 30) (hb : b < 2 ^ 30) : (nI a - nI b).toInt = (a : Int) - b := by
  rw [Int32.toInt_sub, nI_toInt (by omega), nI_toInt (by omega)]
  exact Int.bmod_eq_of_le (by omega) (by omega)
theorem sub_le0 {a b : Nat} (ha : a < 2 ^ 30) (hb : b < 2 ^ 30) : nI a - nI b ≤ 0 ↔ a ≤ b := by
  rw [Int32.le_iff_toInt_le, sub_int ha hb]
  show (a : Int) - b ≤ 0 ↔ _
  omega
theorem shr0 (x : Int32) : x >>> ((0 : Int32) &&& 31) = x := by
  have : (0 : Int32) &&& 31 = 0 := by decide
  rw [this]; exact Int32.shiftRight_zero
theorem shl0 (x : Int32) : x <<< ((0 : Int32) &&& 31) = x := by
  have : (0 : Int32) &&& 31 = 0 := by decide
  rw [this]; exact Int32.shiftLeft_zero
/-- a StringBuilder at o, its row of n bytes at d -/
def SBc (V : HEn) (G : Gh) (o d n : Nat) (l : List Nat) : Prop := ∃ ml f, G o = some (.inr (24, [va_rf (some d), .int 0, .int ml, .int (nI l.length)])) ∧ G d = some (.inl (V.2.1 1, n, .inl f)) ∧ l.length ≤ n ∧ (∀ i (h : i < l.length), f i = bt l[i]) ∧ (∀ i, i < n → fits .byte (.int (f i)) = true) ∧ V.1 ≤ o ∧ V.1 ≤ d ∧ o ≠ d ∧ 0 < n ∧ n ≤ 1000 ∧ (∀ c ∈ l, c < 256)
section B
variable {V : HEn} {G : Gh} {o d n nx : Nat} {l : List Nat}
theorem SBc.keep {G' : Gh} (h : SBc V G o d n l) (ho : G' o = G o) (hd : G' d = G d) : SBc V G' o d n l := by
  obtain ⟨ml, f, h1, h2, h3⟩ := h
  exact ⟨ml, f, ho.trans h1, hd.trans h2, h3⟩
theorem sb_new (hb : V.1 ≤ o) (ho : o < nx) (h : G o = some (.inr (24, [.null, .int 0, .int 0, .int 0]))) : wH (hF_J6_init V G nx o) (fun _ G' c s => c = 1 ∧ s = 16 ∧ SBc V G' o nx 16 [] ∧ ∀ b, b ≠ o → b ≠ nx → G' b = G b) := by
  unfold hF_J6_init hF_J5_init
  apply w_cB
  refine w_neg (by decide) (w_gn (n := 16) (by decide) (w_tick ?_))
  refine w_xF (c := 24) (fs := [.null, .int 0, .int 0, .int 0]) (by rw [gset_ne _ _ (by omega)]; exact h) rfl (Nat.le_of_ble_eq_true rfl) hb rfl (w_xF (gset_eq _ _ _) rfl (Nat.le_of_ble_eq_true rfl) hb rfl (w_ret (w_ret ?_)))
  refine ⟨rfl, rfl, ⟨0, fun _ => 0, gset_eq _ _ _, ?_, by simp, fun i hi => by simp at hi, fun i _ => (show fits .byte (.int 0) = true by decide), hb, by omega, by omega, by decide, by decide, by simp⟩, fun b b1 b2 => by simp only [gset_ne _ _ b1, gset_ne _ _ b2]⟩
  rw [gset_ne _ _ (by omega), gset_ne _ _ (by omega), gset_eq]
theorem sb_length (h : SBc V G o d n l) : hF_J6_length V G nx o = some (nI l.length, G, 0, 0) := by
  obtain ⟨ml, f, h1, h2, h3⟩ := h
  unfold hF_J6_length hF_J5_length
  rw [if_pos (gC_at h1), xI_at h1 rfl rfl]
  rfl
theorem cpI_at {b0 : Nat} {cA : ClassId} {src dst n0 n1 m sp : Nat} {f g : Nat → Int32} (h0 : G src = some (.inl (cA, n0, .inl f))) (h1 : G dst = some (.inl (cA, n1, .inl g))) (hb : b0 ≤ dst) (hn : sp + m ≤ n0) (hn1 : m ≤ n1) (hs : n0 < 2 ^ 31) (hok : ∀ i, i < m → fits .byte (.int (f (sp + i))) = true) : cpI b0 G cA src (nI sp) dst 0 (nI m) = some (gset G dst (.inl (cA, n1, .inl (va_cpy f g sp 0 m)))) := by
  unfold cpI
  rw [h0, h1]
  simp only [nI_clamp (show m < 2 ^ 31 by omega), nI_clamp (show sp < 2 ^ 31 by omega)]
  have z : (0 : Int32).toNatClampNeg = 0 := rfl
  rw [if_pos]
  · rfl
  · refine ⟨trivial, trivial, hb, nI_pos (by omega), by decide, nI_pos (by omega), hn, by rw [z]; omega, ?_⟩
    rw [List.all_eq_true]
    intro i hi
    exact hok i (List.mem_range.mp hi)
abbrev growQ (V : HEn) (G : Gh) (o d n nx m : Nat) (l : List Nat) : Gh → Nat → Nat → Prop := fun G' c s => (∃ d' n', SBc V G' o d' n' l ∧ m ≤ n' ∧ ((d' = d ∧ n' = n ∧ c = 0 ∧ s = 0) ∨ (n < m ∧ d' = nx ∧ n' = 2 * n + 2 ∧ c = 1 ∧ s = 2 * n + 2))) ∧ ∀ b, b ≠ o → b ≠ d → b ≠ nx → G' b = G b
theorem sb_ens {m : Nat} (h : SBc V G o d n l) (hm : m ≤ 2 * n + 2) (hn : n ≤ 400) (ho : o < nx) (hd : d < nx) : wH (hF_J5_ensureCapacityInternal V G nx o (nI m)) (fun _ => growQ V G o d n nx m l) := by
  have h0 := h
  obtain ⟨ml, f, h1, h2, h3, h4, h5, h6, h7, h8, h9, h10, h11⟩ := h
  unfold hF_J5_ensureCapacityInternal hB_J5_ensureCapacityInternal_38
  refine w_xR h1 rfl rfl (w_some (w_aln h2 (w_xI h1 rfl rfl ?_)))
  rw [shr0]
  by_cases c : m ≤ n
  · exact w_pos ((sub_le0 (by omega) (by omega)).mpr c) (w_ret ⟨⟨d, n, h0, c, Or.inl ⟨rfl, rfl, rfl, rfl⟩⟩, fun _ _ _ _ => rfl⟩)
  · refine w_neg (fun z => c ((sub_le0 (by omega) (by omega)).mp z)) (w_xR h1 rfl rfl (w_pos (gC_at h1) ?_))
    have hcap : hF_J5_newCapacity V G nx o (nI m) = some (nI (2 * n + 2), G, 0, 0) := by
      have hw : wH (hF_J5_newCapacity V G nx o (nI m)) (fun r G' c s => r = nI (2 * n + 2) ∧ G' = G ∧ c = 0 ∧ s = 0) := by
        unfold hF_J5_newCapacity hF_J9_newLength
        refine w_xR h1 rfl rfl (w_some (w_aln h2 (w_xI h1 rfl rfl (w_xI h1 rfl rfl ?_))))
        rw [shl0, shl0, nI_sub (by omega), show nI n + 2 = nI (n + 2) from nI_add n 2]
        have hmax : (if nI (m - n) < nI (n + 2) then nI (n + 2) else nI (m - n)) = nI (n + 2) := by
          by_cases c2 : m - n < n + 2
          · rw [if_pos (nI_lt c2 (by omega))]
          · rw [if_neg (nI_nlt (by omega) (by omega))]; congr 1; omega
        rw [hmax, nI_add, show n + (n + 2) = 2 * n + 2 by omega]
        refine w_call0 (r := nI (2 * n + 2)) (G := G) ?_ ?_
        · rw [if_neg (fun z => nI_nle (n := 2 * n + 2) (by omega) (by omega) z), if_neg]
          intro z
          have := Int32.lt_iff_toInt_lt.mp z
          rw [nI_toInt (by omega)] at this
          have e : (2147483639 : Int32).toInt = 2147483639 := by decide
          rw [e] at this
          omega
        · refine w_neg ?_ (w_xI h1 rfl rfl (w_ret ?_))
          · intro z
            have := congrArg Int32.toInt z
            rw [nI_toInt (by omega)] at this
            have e : (2147483647 : Int32).toInt = 2147483647 := by decide
            rw [e] at this
            omega
          · rw [shr0]; exact ⟨rfl, rfl, rfl, rfl⟩
      obtain ⟨r, G', c, s, e, rfl, rfl, rfl, rfl⟩ := hw
      exact e
    refine w_call0 hcap (w_xI h1 rfl rfl ?_)
    rw [shl0]
    unfold hF_J11_copyOf
    apply w_cB
    refine w_some (w_aln h2 (w_neg (fun z => by have := (nI_eq (by omega) (by omega)).mp z; omega) (w_gn (by omega) (w_tick ?_))))
    have e2 : ∀ e, gset G nx e d = some (.inl (V.2.1 1, n, .inl f)) := fun e => by rw [gset_ne _ _ (by omega)]; exact h2
    refine w_aln (e2 _) ?_
    rw [if_neg (nI_nlt (by omega) (by omega))]
    refine w_bind (cpI_at (sp := 0) (m := n) (e2 _) (gset_eq _ _ _) (by omega) (by omega) (by omega) (by omega) (fun i hi => by rw [Nat.zero_add]; exact h5 i hi)) (w_ret ?_)
    refine w_xF (c := 24) (fs := [va_rf (some d), .int 0, .int ml, .int (nI l.length)]) (by rw [gset_ne _ _ (by omega)]; exact (gset_ne _ _ (by omega)).trans h1) rfl (Nat.le_of_ble_eq_true rfl) h6 rfl (w_ret ?_)
    refine ⟨⟨nx, 2 * n + 2, ⟨ml, va_cpy f (fun _ => 0) 0 0 n, gset_eq _ _ _, ?_, by omega, fun i hi => ?_, fun i hi => ?_, h6, by omega, by omega, by omega, by omega, h11⟩, by omega, Or.inr ⟨by omega, rfl, rfl, rfl, rfl⟩⟩, fun b b1 b3 b2 => ?_⟩
    · rw [gset_ne _ _ (by omega)]; exact gset_eq _ _ _
    · unfold va_cpy; rw [if_pos (by omega), Nat.zero_add, Nat.sub_zero]; exact h4 i hi
    · unfold va_cpy
      by_cases c3 : 0 ≤ i ∧ i < 0 + n
      · rw [if_pos c3, Nat.zero_add, Nat.sub_zero]; exact h5 i (by omega)
      · rw [if_neg c3]; show fits .byte (.int 0) = true; decide
    · rw [gset_ne _ _ b1]; exact (gset_ne _ _ b2).trans (gset_ne _ _ b2)
theorem sb_latin (h : SBc V G o d n l) : hF_J5_isLatin1 V G nx o = some (1, G, 0, 0) := by
  obtain ⟨ml, f, h1, h2, h3⟩ := h
  unfold hF_J5_isLatin1
  rw [if_neg (by decide), xI_at h1 rfl rfl]
  rfl
theorem sb_char {c : Nat} (h : SBc V G o d n l) (hn : n ≤ 400) (hc : c < 256) (ho : o < nx) (hd : d < nx) : wH (hF_J6_append V G nx o (nI c)) (fun _ => growQ V G o d n nx (l.length + 1) (l ++ [c])) := by
  have h0 := h
  obtain ⟨ml, f, h1, h2, h3, h4, h5, h6, h7, h8, h9, h10, h11⟩ := h
  unfold hF_J6_append hF_J5_append
  refine w_pos (gC_at h1) ?_
  apply w_cB
  refine w_xI h1 rfl rfl (w_pos (gC_at h1) ?_)
  rw [nI_1]
  refine w_call (sb_ens h0 (by omega) hn ho hd) ?_
  rintro - G1 c1 s1 ⟨⟨d', n', q1, q2, q3⟩, q4⟩
  have q1' := q1
  obtain ⟨ml1, f1, g1, g2, g3, g4, g5, g6, g7, g8, g9, g10, g11⟩ := q1'
  refine w_pos (gC_at g1) (w_call0 (sb_latin q1) (w_neg (by decide) (w_call0 (r := (1 : Int32)) (G := G1) ?_ (w_neg (by decide) ?_))))
  · unfold hF_J12_canEncode
    rw [if_neg (show ¬ (255 : Int32) < nI c from nI_nlt (a := 255) (b := c) (by omega) (by decide))]
    rfl
  · refine w_xR g1 rfl rfl (w_xI g1 rfl rfl (w_xF g1 rfl (Nat.le_of_ble_eq_true rfl) g6 rfl (w_some ?_)))
    refine w_wrI (cA := V.2.1 1) (n := n') (f := f1) (by rw [gset_ne _ _ (Ne.symm g8)]; exact g2) g7 (gd_nI (show l.length < n' by omega) (by omega)) (w_ret (w_ret ?_))
    refine ⟨⟨d', n', ⟨ml1, upd f1 l.length (vp_nar .byte (nI c).toInt8.toInt32), ?_, gset_eq _ _ _, by rw [List.length_append]; exact q2, fun i hi => ?_, fun i hi => ?_, g6, g7, g8, g9, g10, ?_⟩, by omega, by simpa using q3⟩, fun b b1 b3 b2 => ?_⟩
    · rw [gset_ne _ _ g8, gset_eq, List.length_append]; show _ = some (Sum.inr (24, [va_rf (some d'), Value.int 0, Value.int ml1, Value.int (nI (l.length + 1))])); rw [← nI_1]; rfl
    · unfold upd
      by_cases ci : i = l.length
      · subst ci; rw [if_pos rfl, nar_nar]; simp [bt]
      · rw [if_neg ci]
        rw [List.length_append] at hi
        simp at hi
        rw [List.getElem_append_left (show i < l.length by omega)]
        exact g4 i (by omega)
    · unfold upd
      by_cases ci : i = l.length
      · rw [if_pos ci]; exact nar_fits _
      · rw [if_neg ci]; exact g5 i hi
    · intro y hy
      rcases List.mem_append.mp hy with hy | hy
      · exact h11 y hy
      · simp at hy; omega
    · have w : b ≠ d' := by rcases q3 with q3 | q3 <;> omega
      rw [gset_ne _ _ w, gset_ne _ _ b1]; exact q4 b b1 b3 b2
theorem sb_zero (h : SBc V G o d n l) (hn : n ≤ 400) (ho : o < nx) (hd : d < nx) : wH (hF_J6_setLength V G nx o 0) (fun _ G' c s => c = 0 ∧ s = 0 ∧ SBc V G' o d n [] ∧ ∀ b, b ≠ o → G' b = G b) := by
  have h0 := h
  obtain ⟨ml, f, h1, h2, h3, h4, h5, h6, h7, h8, h9, h10, h11⟩ := h
  unfold hF_J6_setLength hF_J5_setLength hB_J5_setLength_76
  refine w_pos (gC_at h1) ?_
  apply w_cB
  refine w_pos (by decide) (w_pos (gC_at h1) ?_)
  have hz : hF_J5_ensureCapacityInternal V G nx o 0 = some ((), G, 0, 0) := by
    have hw : wH (hF_J5_ensureCapacityInternal V G nx o 0) (fun _ G' c s => G' = G ∧ c = 0 ∧ s = 0) := by
      unfold hF_J5_ensureCapacityInternal hB_J5_ensureCapacityInternal_38
      refine w_xR h1 rfl rfl (w_some (w_aln h2 (w_xI h1 rfl rfl ?_)))
      rw [shr0]
      exact w_pos ((sub_le0 (a := 0) (b := n) (by omega) (by omega)).mpr (by omega)) (w_ret ⟨rfl, rfl, rfl⟩)
    obtain ⟨r, G', c, s, e, rfl, rfl, rfl⟩ := hw
    exact e
  refine w_call0 hz (w_xI h1 rfl rfl (w_pos (nI_pos' (by omega)) (w_xI h1 rfl rfl (w_if (fun c1 => ?_) (fun c1 => ?_)))))
  · refine w_xF h1 rfl (Nat.le_of_ble_eq_true rfl) h6 rfl (w_ret (w_ret ?_))
    exact ⟨rfl, rfl, ⟨ml, f, gset_eq _ _ _, by rw [gset_ne _ _ (Ne.symm h8)]; exact h2, by simp, fun i hi => by simp at hi, h5, h6, h7, h8, h9, h10, by simp⟩, fun b hb => gset_ne _ _ hb⟩
  · refine w_xF h1 rfl (Nat.le_of_ble_eq_true rfl) h6 rfl (w_xF (gset_eq _ _ _) rfl (Nat.le_of_ble_eq_true rfl) h6 rfl (w_ret (w_ret ?_)))
    exact ⟨rfl, rfl, ⟨1, f, gset_eq _ _ _, by rw [gset_ne _ _ (Ne.symm h8), gset_ne _ _ (Ne.symm h8)]; exact h2, by simp, fun i hi => by simp at hi, h5, h6, h7, h8, h9, h10, by simp⟩, fun b hb => by simp only [gset_ne _ _ hb]⟩
end B

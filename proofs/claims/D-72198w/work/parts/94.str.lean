/-! PURE 25: Strings -/
theorem nI_leq {a b : Nat} (ha : a < 2 ^ 31) (hb : b < 2 ^ 31) : nI a ≤ nI b ↔ a ≤ b := by
  rw [Int32.le_iff_toInt_le, nI_toInt (by omega), nI_toInt (by omega)]
  omega
def hsf (h : Int32) (l : List Nat) : Int32 := l.foldl (fun h c => 31 * h + nI c) h
def hsh (l : List Nat) : Int32 := hsf 0 l
theorem bt_and : ∀ c, c < 256 → bt c &&& 255 = nI c := by decide +kernel
theorem bt_inj {a b : Nat} (ha : a < 256) (hb : b < 256) (h : bt a = bt b) : a = b := by
  have := (bt_and a ha).symm.trans ((congrArg (· &&& 255) h).trans (bt_and b hb))
  exact (nI_eq (by omega) (by omega)).mp this
/-- a String at o, its row of bytes at d; st: its hash is settled -/
def Str (V : HEn) (G : Gh) (o d : Nat) (l : List Nat) (st : Prop) : Prop := ∃ f h z, G o = some (.inr (25, [va_rf (some d), .int 0, .int h, .int z])) ∧ G d = some (.inl (V.2.1 1, l.length, .inl f)) ∧ (∀ i (h : i < l.length), f i = bt l[i]) ∧ (∀ c ∈ l, c < 256) ∧ o ≠ d ∧ l.length ≤ 1000 ∧ (h = 0 ∨ h = hsh l) ∧ (z ≠ 0 → hsh l = 0) ∧ (st → h ≠ 0 ∨ z ≠ 0)
section S
variable {V : HEn} {G : Gh} {o d nx : Nat} {l : List Nat} {st : Prop}
theorem Str.keep {G' : Gh} (h : Str V G o d l st) (ho : G' o = G o) (hd : G' d = G d) : Str V G' o d l st := by
  obtain ⟨f, x, z, h1, h2, h3⟩ := h
  exact ⟨f, x, z, ho.trans h1, hd.trans h2, h3⟩
theorem Str.any (h : Str V G o d l st) : Str V G o d l False := by
  obtain ⟨f, x, z, h1, h2, h3, h4, h5, h6, h7, h8, h9⟩ := h
  exact ⟨f, x, z, h1, h2, h3, h4, h5, h6, h7, h8, fun q => q.elim⟩
theorem Str.gC (h : Str V G o d l st) : gC G o 25 = true := by
  obtain ⟨f, x, z, h1, h2, h3⟩ := h
  exact gC_at h1
theorem Str.len (h : Str V G o d l st) : l.length ≤ 1000 := by
  obtain ⟨f, x, z, h1, h2, h3, h4, h5, h6, h7⟩ := h
  exact h6
theorem Str.ch (h : Str V G o d l st) : ∀ c ∈ l, c < 256 := by
  obtain ⟨f, x, z, h1, h2, h3, h4, h5, h6, h7⟩ := h
  exact h4
theorem str_latin (h : Str V G o d l st) : hF_J7_isLatin1 V G nx o = some (1, G, 0, 0) := by
  obtain ⟨f, x, z, h1, h2, h3⟩ := h
  unfold hF_J7_isLatin1
  rw [if_neg (by decide), xI_at h1 rfl rfl]
  rfl
theorem str_coder (h : Str V G o d l st) : hF_J7_coder V G nx o = some (0, G, 0, 0) := by
  obtain ⟨f, x, z, h1, h2, h3⟩ := h
  unfold hF_J7_coder
  rw [if_neg (by decide), xI_at h1 rfl rfl]
  rfl
theorem str_length (h : Str V G o d l st) : hF_J7_length V G nx o = some (nI l.length, G, 0, 0) := by
  have h0 := h
  obtain ⟨f, x, z, h1, h2, h3⟩ := h
  have hw : wH (hF_J7_length V G nx o) (fun r G' c s => r = nI l.length ∧ G' = G ∧ c = 0 ∧ s = 0) := by
    unfold hF_J7_length
    refine w_xR h1 rfl rfl (w_some (w_aln h2 (w_pos h0.gC (w_call0 (str_coder h0) (w_ret ⟨shr0 _, rfl, rfl, rfl⟩)))))
  obtain ⟨r, G', c, s, e, rfl, rfl, rfl, rfl⟩ := hw
  exact e
theorem str_empty (h : Str V G o d l st) : hF_J7_isEmpty V G nx o = some (if l = [] then 1 else 0, G, 0, 0) := by
  have h0 := h
  obtain ⟨f, x, z, h1, h2, h3⟩ := h
  unfold hF_J7_isEmpty
  rw [xR_at h1 rfl rfl]
  show ((aln G (V.2.1 1) d).bind _) = _
  rw [aln_at h2]
  show (if nI l.length = 0 then _ else _) = _
  cases l with
  | nil => rfl
  | cons a t =>
    have := h0.len
    rw [if_neg (fun q => by have := (nI_eq (b := 0) (by omega) (by omega)).mp q; simp at this), if_neg (by simp)]
    rfl
theorem str_charAt (h : Str V G o d l st) {i : Nat} (hi : i < l.length) : hF_J7_charAt V G nx o (nI i) = some (nI l[i], G, 0, 0) := by
  have h0 := h
  have hl := h.len
  have hc := h.ch l[i] (List.getElem_mem hi)
  obtain ⟨f, x, z, h1, h2, h3, h4⟩ := h
  have hk : ∀ c, c < 256 → (((nI c).toUInt32 % 65536).toInt32) = nI c ∧ vp_nar .char (nI c) = nI c := by decide +kernel
  obtain ⟨k1, k2⟩ := hk _ hc
  have hw : wH (hF_J7_charAt V G nx o (nI i)) (fun r G' c s => r = nI l[i] ∧ G' = G ∧ c = 0 ∧ s = 0) := by
    unfold hF_J7_charAt hF_J12_charAt hF_J7_checkIndex hF_J13_checkIndex
    refine w_pos h0.gC (w_call0 (str_latin h0) (w_neg (by decide) (w_xR h1 rfl rfl ?_)))
    apply w_cB
    refine w_some (w_aln h2 ?_)
    apply w_cB
    apply w_cB
    refine w_neg (nI_pos (by omega)) (w_pos (nI_lt hi (by omega)) (w_ret (w_ret (w_rdI h2 (gd_nI hi (by omega)) ?_))))
    rw [h3 i hi, bt_and _ hc, k1, k2]
    refine w_pos rfl (w_ret ?_)
    rw [k2]
    exact w_pos rfl (w_ret ⟨rfl, rfl, rfl, rfl⟩)
  obtain ⟨r, G', c, s, e, rfl, rfl, rfl, rfl⟩ := hw
  exact e
theorem hs_loop {f : Nat → Int32} (h2 : G d = some (.inl (V.2.1 1, l.length, .inl f))) (h3 : ∀ i (h : i < l.length), f i = bt l[i]) (h4 : ∀ c ∈ l, c < 256) (hl : l.length ≤ 1000) : ∀ (k m : Nat) (x : Int32) (i nx : Nat), i + k = l.length → k + 1 ≤ m → hL_J9_signedHashCode_8 V m G nx x (some d) (nI l.length) (nI i) = some (hsf x (l.drop i), G, 0, 0) := by
  intro k
  induction k with
  | zero =>
    intro m x i nx hi hm
    obtain ⟨m, rfl⟩ := Nat.exists_eq_succ_of_ne_zero (show m ≠ 0 by omega)
    rw [hL_J9_signedHashCode_8, show i = l.length by omega, if_pos (Int32.le_refl _), List.drop_length]
    rfl
  | succ k ih =>
    intro m x i nx hi hm
    obtain ⟨m, rfl⟩ := Nat.exists_eq_succ_of_ne_zero (show m ≠ 0 by omega)
    have hi' : i < l.length := by omega
    rw [hL_J9_signedHashCode_8, if_neg (fun z => by have := (nI_leq (by omega) (by omega)).mp z; omega)]
    show ((rdI G (V.2.1 1) d (nI i)).bind _) = _
    rw [rdI_at h2 (gd_nI hi' (by omega)), h3 i hi']
    show hL_J9_signedHashCode_8 V m G nx (31 * x + (bt l[i] &&& 255)) (some d) (nI l.length) (nI i + 1) = _
    rw [bt_and _ (h4 _ (List.getElem_mem hi')), nI_1, ih m _ (i + 1) nx (by omega) (by omega), List.drop_eq_getElem_cons hi']
    rfl
theorem str_hashRow (hV : 1200 ≤ V.2.2.2.2) {f : Nat → Int32} (h2 : G d = some (.inl (V.2.1 1, l.length, .inl f))) (h3 : ∀ i (h : i < l.length), f i = bt l[i]) (h4 : ∀ c ∈ l, c < 256) (hl : l.length ≤ 1000) : hF_J12_hashCode V G nx (some d) = some (hsh l, G, 0, 0) := by
  have hw : wH (hF_J12_hashCode V G nx (some d)) (fun r G' c s => r = hsh l ∧ G' = G ∧ c = 0 ∧ s = 0) := by
    unfold hF_J12_hashCode hB_J12_hashCode_51
    refine w_some (w_aln h2 (w_if (fun c => w_ret ⟨?_, rfl, rfl, rfl⟩) (fun c => w_if (fun c1 => ?_) (fun c1 => w_aln h2 ?_))))
    · have : l.length = 0 := (nI_eq (b := 0) (by omega) (by omega)).mp c
      rw [List.eq_nil_of_length_eq_zero this]; rfl
    · have : l.length = 1 := (nI_eq (b := 1) (by omega) (by omega)).mp c1
      refine w_rdI h2 (gd_nI (k := 0) (by omega) (by omega)) (w_ret ⟨?_, rfl, rfl, rfl⟩)
      rw [h3 0 (by omega), bt_and _ (h4 _ (List.getElem_mem _))]
      match l, this with
      | [a], _ =>
        show nI a = 31 * 0 + nI a
        rw [Int32.mul_zero, Int32.zero_add]
    · unfold hF_J9_vectorizedHashCode hF_J9_signedHashCode
      apply w_cB
      refine w_pos rfl (w_some (w_aln h2 ?_))
      have := hs_loop h2 h3 h4 hl l.length V.2.2.2.2 0 0 nx (by omega) (by omega)
      rw [Int32.zero_add]
      exact w_call0 this (w_ret (w_ret ⟨rfl, rfl, rfl, rfl⟩))
  obtain ⟨r, G', c, s, e, rfl, rfl, rfl, rfl⟩ := hw
  exact e
theorem str_hash (hV : 1200 ≤ V.2.2.2.2) (h : Str V G o d l st) (hb : V.1 ≤ o) : wH (hF_J7_hashCode V G nx o) (fun r G' c s => r = hsh l ∧ c = 0 ∧ s = 0 ∧ Str V G' o d l True ∧ ∀ b, b ≠ o → G' b = G b) := by
  have h0 := h
  obtain ⟨f, x, z, h1, h2, h3, h4, h5, h6, h7, h8, h9⟩ := h
  unfold hF_J7_hashCode hB_J7_hashCode_58
  refine w_xI h1 rfl rfl (w_if (fun c => w_xI h1 rfl rfl (w_if (fun c1 => ?_) (fun c1 => ?_))) (fun c => ?_))
  · refine w_pos h0.gC (w_call0 (str_latin h0) (w_neg (by decide) (w_xR h1 rfl rfl (w_call0 (str_hashRow hV h2 h3 h4 h6) (w_if (fun c2 => ?_) (fun c2 => ?_))))))
    · refine w_xF h1 rfl (Nat.le_of_ble_eq_true rfl) hb rfl (w_ret ⟨rfl, rfl, rfl, ⟨f, x, 1, gset_eq _ _ _, by rw [gset_ne _ _ (Ne.symm h5)]; exact h2, h3, h4, h5, h6, h7, fun _ => c2, fun _ => Or.inr (by decide)⟩, fun b hb => gset_ne _ _ hb⟩)
    · refine w_xF h1 rfl (Nat.le_of_ble_eq_true rfl) hb rfl (w_ret ⟨rfl, rfl, rfl, ⟨f, hsh l, z, gset_eq _ _ _, by rw [gset_ne _ _ (Ne.symm h5)]; exact h2, h3, h4, h5, h6, Or.inr rfl, h8, fun _ => Or.inl c2⟩, fun b hb => gset_ne _ _ hb⟩)
  · exact w_ret ⟨c.trans (h8 c1).symm, rfl, rfl, ⟨f, x, z, h1, h2, h3, h4, h5, h6, h7, h8, fun _ => Or.inr c1⟩, fun _ _ => rfl⟩
  · exact w_ret ⟨h7.resolve_left c, rfl, rfl, ⟨f, x, z, h1, h2, h3, h4, h5, h6, h7, h8, fun _ => Or.inl c⟩, fun _ _ => rfl⟩
theorem str_hashS (h : Str V G o d l True) : hF_J7_hashCode V G nx o = some (hsh l, G, 0, 0) := by
  obtain ⟨f, x, z, h1, h2, h3, h4, h5, h6, h7, h8, h9⟩ := h
  have hw : wH (hF_J7_hashCode V G nx o) (fun r G' c s => r = hsh l ∧ G' = G ∧ c = 0 ∧ s = 0) := by
    unfold hF_J7_hashCode hB_J7_hashCode_58
    refine w_xI h1 rfl rfl (w_if (fun c => w_xI h1 rfl rfl (w_if (fun c1 => ?_) (fun c1 => ?_))) (fun c => ?_))
    · rcases h9 trivial with q | q
      · exact absurd c q
      · exact absurd c1 q
    · exact w_ret ⟨c.trans (h8 c1).symm, rfl, rfl, rfl⟩
    · exact w_ret ⟨h7.resolve_left c, rfl, rfl, rfl⟩
  obtain ⟨r, G', c, s, e, rfl, rfl, rfl, rfl⟩ := hw
  exact e
theorem eq_loop {d' : Nat} {l' : List Nat} {f f' : Nat → Int32} (h2 : G d = some (.inl (V.2.1 1, l.length, .inl f))) (h3 : ∀ i (h : i < l.length), f i = bt l[i]) (h4 : ∀ c ∈ l, c < 256) (hl : l.length ≤ 1000) (k2 : G d' = some (.inl (V.2.1 1, l'.length, .inl f'))) (k3 : ∀ i (h : i < l'.length), f' i = bt l'[i]) (k4 : ∀ c ∈ l', c < 256) (hh : l.length = l'.length) : ∀ (k m i nx : Nat), i + k = l.length → k + 1 ≤ m → hL_J12_equals_9 V m G nx (some d) (some d') (nI i) = some (if l.drop i = l'.drop i then 1 else 0, G, 0, 0) := by
  intro k
  induction k with
  | zero =>
    intro m i nx hi hm
    obtain ⟨m, rfl⟩ := Nat.exists_eq_succ_of_ne_zero (show m ≠ 0 by omega)
    rw [hL_J12_equals_9]
    show ((aln G (V.2.1 1) d).bind _) = _
    rw [aln_at h2]
    show (if nI l.length ≤ nI i then _ else _) = _
    rw [if_pos ((nI_leq (by omega) (by omega)).mpr (by omega)), List.drop_eq_nil_of_le (by omega), List.drop_eq_nil_of_le (by omega)]
    rfl
  | succ k ih =>
    intro m i nx hi hm
    obtain ⟨m, rfl⟩ := Nat.exists_eq_succ_of_ne_zero (show m ≠ 0 by omega)
    have hi' : i < l.length := by omega
    have hi2 : i < l'.length := by omega
    rw [hL_J12_equals_9]
    show ((aln G (V.2.1 1) d).bind _) = _
    rw [aln_at h2]
    show (if nI l.length ≤ nI i then _ else _) = _
    rw [if_neg (fun z => by have := (nI_leq (by omega) (by omega)).mp z; omega), rdI_at h2 (gd_nI hi' (by omega))]
    show ((rdI G (V.2.1 1) d' (nI i)).bind _) = _
    rw [rdI_at k2 (gd_nI hi2 (by omega)), h3 i hi', k3 i hi2]
    show (if bt l[i] = bt l'[i] then hL_J12_equals_9 V m G nx (some d) (some d') (nI i + 1) else some (0, G, 0, 0)) = _
    rw [List.drop_eq_getElem_cons hi', List.drop_eq_getElem_cons hi2]
    by_cases c : l[i] = l'[i]
    · rw [if_pos (by rw [c]), nI_1, ih m (i + 1) nx (by omega) (by omega)]
      simp only [List.cons.injEq, c, true_and]
    · rw [if_neg (fun z => c (bt_inj (h4 _ (List.getElem_mem hi')) (k4 _ (List.getElem_mem hi2)) z)), if_neg (fun z => c (List.cons.inj z).1)]
theorem str_equals {o' d' : Nat} {l' : List Nat} {st' : Prop} (hV : 1200 ≤ V.2.2.2.2) (h : Str V G o d l st) (k : Str V G o' d' l' st') : hF_J7_equals V G nx o (some o') = some (if l = l' then 1 else 0, G, 0, 0) := by
  have h0 := h
  have k0 := k
  obtain ⟨f, x, z, h1, h2, h3, h4, h5, h6, h7⟩ := h
  obtain ⟨f', x', z', k1, k2, k3, k4, k5, k6, k7⟩ := k
  have hw : wH (hF_J7_equals V G nx o (some o')) (fun r G' c s => r = (if l = l' then 1 else 0) ∧ G' = G ∧ c = 0 ∧ s = 0) := by
    unfold hF_J7_equals hB_J7_equals_54 hB_J7_equals_36 hB_J7_equals_54 hB_J7_equals_55
    refine w_if (fun c => ?_) (fun c => ?_)
    · cases c
      rw [h1] at k1
      cases k1
      rw [h2] at k2
      have e1 := congrArg (fun x => match x with | some (.inl (_, n, .inl g)) => (n, g) | _ => (0, fun _ => (0 : Int32))) k2
      simp only [Prod.mk.injEq] at e1
      have : l = l' := by
        refine List.ext_getElem e1.1 (fun i q1 q2 => bt_inj (h4 _ (List.getElem_mem q1)) (k4 _ (List.getElem_mem q2)) ?_)
        rw [← h3 i q1, ← k3 i q2, e1.2]
      exact w_ret ⟨by rw [if_pos this], rfl, rfl, rfl⟩
    · refine w_bind (v := 1) ?_ (w_neg (by decide) (w_pos (gok_at k1 (by simp)) (w_neg (by decide) (w_xI h1 rfl rfl (w_some (w_xI k1 rfl rfl (w_pos rfl (w_xR h1 rfl rfl (w_some (w_xR k1 rfl rfl ?_))))))))))
      · show (if [25].any (gC G o') = true then some (1 : Int32) else _) = _
        rw [if_pos (List.any_eq_true.mpr ⟨25, by simp, gC_at k1⟩)]
      · refine w_call0 (r := if l = l' then 1 else 0) (G := G) ?_ (w_if (fun c1 => ?_) (fun c1 => ?_))
        · unfold hF_J12_equals
          show ((aln G (V.2.1 1) d).bind _) = _
          rw [aln_at h2]
          show ((aln G (V.2.1 1) d').bind _) = _
          rw [aln_at k2]
          show (if nI l.length = nI l'.length then hL_J12_equals_9 V V.2.2.2.2 G nx (some d) (some d') (nI 0) else some (0, G, 0, 0)) = _
          by_cases c2 : l.length = l'.length
          · rw [if_pos (by rw [c2]), eq_loop h2 h3 h4 h6 k2 k3 k4 c2 l.length V.2.2.2.2 0 nx (by omega) (by omega)]
            rfl
          · rw [if_neg (fun z => c2 ((nI_eq (by omega) (by omega)).mp z)), if_neg (fun z => c2 (by rw [z]))]
        · refine w_pos (by decide) (w_ret ⟨c1.symm, rfl, rfl, rfl⟩)
        · refine w_pos (by decide) (w_ret ⟨?_, rfl, rfl, rfl⟩)
          by_cases c3 : l = l'
          · rw [if_pos c3]
          · rw [if_neg c3] at c1; exact absurd rfl c1
  obtain ⟨r, G', c, s, e, rfl, rfl, rfl, rfl⟩ := hw
  exact e
theorem str_eqD {o' d' : Nat} {l' : List Nat} {st' : Prop} (hV : 1200 ≤ V.2.2.2.2) (h : Str V G o d l st) (k : Str V G o' d' l' st') : eqD V G nx o (some o') = some (if l = l' then 1 else 0, G, 0, 0) := by
  unfold eqD
  have h0 := h
  obtain ⟨f, x, z, h1, h2, h3⟩ := h
  rw [if_neg (gC_no h1 (by decide)), if_pos h0.gC]
  exact str_equals hV h0 k
/-- the hash, as the map takes it -/
def spr (x : Int32) : Int32 := x ^^^ ((x.toUInt32 >>> ((16 : Int32).toUInt32 &&& Int32.toUInt32 31)).toInt32)
theorem str_spr (h : Str V G o d l True) : hF_J39_hash V G nx (some o) = some (spr (hsh l), G, 0, 0) := by
  have hw : wH (hF_J39_hash V G nx (some o)) (fun r G' c s => r = spr (hsh l) ∧ G' = G ∧ c = 0 ∧ s = 0) := by
    unfold hF_J39_hash hD_J39_hash_9 hB_J39_hash_19
    refine w_neg (by simp) (w_some (w_call0 (r := hsh l) (G := G) ?_ (w_ret ⟨rfl, rfl, rfl, rfl⟩)))
    have h0 := h
    obtain ⟨f, x, z, h1, h2, h3⟩ := h
    rw [if_neg (gC_no h1 (by decide)), if_pos h0.gC]
    exact str_hashS h0
  obtain ⟨r, G', c, s, e, rfl, rfl, rfl, rfl⟩ := hw
  exact e
theorem str_spr0 (hV : 1200 ≤ V.2.2.2.2) (h : Str V G o d l st) (hb : V.1 ≤ o) : wH (hF_J39_hash V G nx (some o)) (fun r G' c s => r = spr (hsh l) ∧ c = 0 ∧ s = 0 ∧ Str V G' o d l True ∧ ∀ b, b ≠ o → G' b = G b) := by
  unfold hF_J39_hash hD_J39_hash_9 hB_J39_hash_19
  refine w_neg (by simp) (w_some (w_call (Q' := fun r G' c s => r = hsh l ∧ c = 0 ∧ s = 0 ∧ Str V G' o d l True ∧ ∀ b, b ≠ o → G' b = G b) ?_ ?_))
  · have h0 := h
    obtain ⟨f, x, z, h1, h2, h3⟩ := h
    exact w_neg (gC_no h1 (by decide)) (w_pos h0.gC (str_hash hV h0 hb))
  · rintro r G' c s ⟨rfl, rfl, rfl, q1, q2⟩
    exact w_ret ⟨rfl, rfl, rfl, q1, q2⟩
end S

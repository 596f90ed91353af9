/-! PURE 88: String.contains, StringBuilder.append(String), Fault -/
/-- w stands in l at i -/
def mtB (l w : List Nat) (i : Nat) : Prop := i + w.length ≤ l.length ∧ ∀ k, k < w.length → l[i + k]? = w[k]?
def ctn (l w : List Nat) : Bool := (List.range (l.length + 1)).any (fun i => w.isPrefixOf (l.drop i))
theorem mtB_iff {l w : List Nat} {i : Nat} : mtB l w i ↔ w.isPrefixOf (l.drop i) = true ∧ i + w.length ≤ l.length := by
  rw [List.isPrefixOf_iff_prefix, List.prefix_iff_getElem?]
  constructor
  · rintro ⟨h1, h2⟩
    refine ⟨fun k hk => ?_, h1⟩
    rw [List.getElem?_drop, h2 k hk]
    exact List.getElem?_eq_getElem hk
  · rintro ⟨h1, h2⟩
    refine ⟨h2, fun k hk => ?_⟩
    have := h1 k hk
    rw [List.getElem?_drop] at this
    rw [this]
    exact (List.getElem?_eq_getElem hk).symm
theorem ctn_iff {l w : List Nat} (hw : 0 < w.length) : ctn l w = true ↔ ∃ i, mtB l w i := by
  unfold ctn
  rw [List.any_eq_true]
  constructor
  · rintro ⟨i, h1, h2⟩
    refine ⟨i, mtB_iff.mpr ⟨h2, ?_⟩⟩
    have h3 := (List.isPrefixOf_iff_prefix.mp h2).length_le
    rw [List.length_drop] at h3
    have := List.mem_range.mp h1
    omega
  · rintro ⟨i, h⟩
    refine ⟨i, List.mem_range.mpr ?_, (mtB_iff.mp h).1⟩
    have := h.1
    omega
section X
variable {V : HEn} {G : Gh} {nx o d o' d' la wa : Nat} {l w : List Nat} {f g : Nat → Int32}
abbrev IxQ (l w : List Nat) (G : Gh) : Int32 → Gh → Nat → Nat → Prop := fun r G' c s => G' = G ∧ c = 0 ∧ s = 0 ∧ ((r = -1 ∧ ∀ i, ¬ mtB l w i) ∨ ∃ i, r = nI i ∧ i < 1000 ∧ mtB l w i)
theorem ix_cmp {k14 : Gh → Nat → Option Nat → Option Nat → Int32 → Int32 → Int32 → Int32 → HO Int32} {i : Nat} {w0 mx : Int32} {Q : Int32 → Gh → Nat → Nat → Prop} (hl : l.length ≤ 150) (hi : i + w.length ≤ l.length) (h1 : G la = some (.inl (V.2.1 1, l.length, .inl f))) (h2 : G wa = some (.inl (V.2.1 1, w.length, .inl g))) (eqb : ∀ a b, a < l.length → b < w.length → (f a = g b ↔ l[a]? = w[b]?)) (K1 : mtB l w i → wH (some (nI i, G, 0, 0)) Q) (K2 : ¬ mtB l w i → wH (k14 G nx (some la) (some wa) (nI w.length) w0 mx (nI (i + 1))) Q) :
    ∀ (c j m : Nat), j + c = w.length → c + 1 ≤ m → (∀ k, k < j → l[i + k]? = w[k]?) → wH (hL_J12_indexOf_2_76 V k14 m G nx (some la) (some wa) (nI w.length) w0 mx (nI i) (nI (i + j)) (nI (i + w.length)) (nI j)) Q := by
  intro c
  induction c with
  | zero =>
    intro j m hj hm hk
    obtain ⟨m, rfl⟩ := Nat.exists_eq_succ_of_ne_zero (show m ≠ 0 by omega)
    have : j = w.length := by omega
    subst this
    rw [hL_J12_indexOf_2_76]
    unfold hB_J12_indexOf_2_103
    exact w_pos (Int32.le_refl _) (w_pos rfl (K1 ⟨hi, hk⟩))
  | succ c ih =>
    intro j m hj hm hk
    obtain ⟨m, rfl⟩ := Nat.exists_eq_succ_of_ne_zero (show m ≠ 0 by omega)
    rw [hL_J12_indexOf_2_76]
    unfold hB_J12_indexOf_2_103 hB_J12_indexOf_2_113
    refine w_neg (fun z => by have := (nI_leq (by omega) (by omega)).mp z; omega) (w_some (w_rdI h1 (gd_nI (show i + j < l.length by omega) (by omega)) (w_some (w_rdI h2 (gd_nI (show j < w.length by omega) (by omega)) ?_))))
    rw [nI_1, nI_1]
    by_cases c1 : f (i + j) = g j
    · refine w_pos c1 (ih (j + 1) m (by omega) (by omega) (fun k hk' => ?_))
      by_cases ck : k = j
      · rw [ck]; exact (eqb _ _ (by omega) (by omega)).mp c1
      · exact hk k (by omega)
    · refine w_neg c1 (w_neg (fun z => by have := (nI_eq (by omega) (by omega)).mp z; omega) ?_)
      rw [nI_1]
      exact K2 (fun hm => c1 ((eqb _ _ (by omega) (by omega)).mpr (hm.2 j (by omega))))
theorem ix_loop (hV : 1200 ≤ V.2.2.2.2) (hl : l.length ≤ 150) (hw : 0 < w.length) (hwl : w.length ≤ l.length) (h1 : G la = some (.inl (V.2.1 1, l.length, .inl f))) (hf : ∀ i (h : i < l.length), f i = bt l[i]) (h2 : G wa = some (.inl (V.2.1 1, w.length, .inl g))) (hg : ∀ i (h : i < w.length), g i = bt w[i]) (hlc : ∀ c ∈ l, c < 256) (hwc : ∀ c ∈ w, c < 256) :
    ∀ (c i m : Nat), l.length - w.length + 1 ≤ i + c → c + 1 ≤ m → i < 400 → (∀ i', i' < i → ¬ mtB l w i') → wH (hL_J12_indexOf_2_14 V m G nx (some la) (some wa) (nI w.length) (g 0) (nI (l.length - w.length)) (nI i)) (IxQ l w G) := by
  have none_ : ∀ i, l.length - w.length < i → (∀ i', i' < i → ¬ mtB l w i') → ∀ i', ¬ mtB l w i' := fun i hi h i' hm => by
    by_cases c : i' < i
    · exact h i' c hm
    · have := hm.1; omega
  have eqb : ∀ a b, a < l.length → b < w.length → (f a = g b ↔ l[a]? = w[b]?) := fun a b ha hb => by
    rw [hf a ha, hg b hb, List.getElem?_eq_getElem ha, List.getElem?_eq_getElem hb]
    exact ⟨fun z => by rw [bt_inj (hlc _ (List.getElem_mem ha)) (hwc _ (List.getElem_mem hb)) z], fun z => by rw [Option.some.inj z]⟩
  intro c
  induction c with
  | zero =>
    intro i m hi hm hi4 hno
    obtain ⟨m, rfl⟩ := Nat.exists_eq_succ_of_ne_zero (show m ≠ 0 by omega)
    rw [hL_J12_indexOf_2_14]
    exact w_pos (nI_lt (by omega) (by omega)) (w_ret ⟨rfl, rfl, rfl, Or.inl ⟨rfl, none_ i (by omega) hno⟩⟩)
  | succ c ih =>
    intro i m hi hm hi4 hno
    obtain ⟨m, rfl⟩ := Nat.exists_eq_succ_of_ne_zero (show m ≠ 0 by omega)
    -- a place is looked at
    have b52 : ∀ i', i ≤ i' → i' ≤ l.length - w.length + 1 → (∀ i'', i'' < i' → ¬ mtB l w i'') → (i' ≤ l.length - w.length → l[i']? = w[0]?) → wH (hB_J12_indexOf_2_52 V (hL_J12_indexOf_2_14 V m) G nx (some la) (some wa) (nI w.length) (g 0) (nI (l.length - w.length)) (nI i')) (IxQ l w G) := by
      intro i' q1 q2 q3 q4
      have nx' : ¬ mtB l w i' → wH (hL_J12_indexOf_2_14 V m G nx (some la) (some wa) (nI w.length) (g 0) (nI (l.length - w.length)) (nI (i' + 1))) (IxQ l w G) := fun hn => ih (i' + 1) m (by omega) (by omega) (by omega) (fun i'' hh => by
        by_cases ce : i'' = i'
        · rw [ce]; exact hn
        · exact q3 i'' (by omega))
      unfold hB_J12_indexOf_2_52 hB_J12_indexOf_2_113
      by_cases cm : l.length - w.length < i'
      · refine w_pos (nI_lt cm (by omega)) ?_
        rw [nI_1]
        exact nx' (fun hm => by have := hm.1; omega)
      · refine w_neg (nI_nlt (by omega) (by omega)) ?_
        have e9 : nI i' + 1 + nI w.length - 1 = nI (i' + w.length) := by
          rw [nI_1, nI_add, show i' + 1 + w.length = i' + w.length + 1 by omega, nI_pred]
        rw [e9, nI_1]
        exact ix_cmp (i := i') hl (by omega) h1 h2 eqb (fun hm => w_ret ⟨rfl, rfl, rfl, Or.inr ⟨i', rfl, by omega, hm⟩⟩) nx' (w.length - 1) 1 V.2.2.2.2 (by omega) (by omega) (fun k hk => by
          have : k = 0 := by omega
          subst this
          exact q4 (by omega))
    have ne0 : ∀ i', i' < l.length → ¬ f i' = g 0 → ¬ mtB l w i' := fun i' h1' hne hm => hne ((eqb _ _ h1' hw).mpr (hm.2 0 hw))
    -- the next place that may be one is looked for
    have b30 : ∀ (q i' mm : Nat), i' + q = l.length - w.length + 1 → q + 1 ≤ mm → i ≤ i' → (∀ i'', i'' < i' + 1 → ¬ mtB l w i'') → wH (hL_J12_indexOf_2_30 V (hL_J12_indexOf_2_14 V m) mm G nx (some la) (some wa) (nI w.length) (g 0) (nI (l.length - w.length)) (nI i')) (IxQ l w G) := by
      intro q
      induction q with
      | zero =>
        intro i' mm hq hmm hii hn
        obtain ⟨mm, rfl⟩ := Nat.exists_eq_succ_of_ne_zero (show mm ≠ 0 by omega)
        rw [hL_J12_indexOf_2_30, nI_1]
        refine w_pos (nI_lt (by omega) (by omega)) ?_
        unfold hB_J12_indexOf_2_52 hB_J12_indexOf_2_113
        refine w_pos (nI_lt (by omega) (by omega)) ?_
        rw [nI_1]
        exact ih (i' + 1 + 1) m (by omega) (by omega) (by omega) (fun i'' hh hm => by
          by_cases ce : i'' = i' + 1
          · have := hm.1; omega
          · exact hn i'' (by omega) hm)
      | succ q ihq =>
        intro i' mm hq hmm hii hn
        obtain ⟨mm, rfl⟩ := Nat.exists_eq_succ_of_ne_zero (show mm ≠ 0 by omega)
        rw [hL_J12_indexOf_2_30, nI_1]
        by_cases cm : l.length - w.length < i' + 1
        · exact w_pos (nI_lt cm (by omega)) (b52 (i' + 1) (by omega) (by omega) hn (fun hh => by omega))
        · refine w_neg (nI_nlt (by omega) (by omega)) (w_some (w_rdI h1 (gd_nI (show i' + 1 < l.length by omega) (by omega)) ?_))
          by_cases ce : f (i' + 1) = g 0
          · exact w_pos ce (b52 (i' + 1) (by omega) (by omega) hn (fun _ => (eqb _ _ (by omega) hw).mp ce))
          · refine w_neg ce (ihq (i' + 1) mm (by omega) (by omega) (by omega) (fun i'' hh => ?_))
            by_cases ce2 : i'' = i' + 1
            · rw [ce2]; exact ne0 _ (by omega) ce
            · exact hn i'' (by omega)
    rw [hL_J12_indexOf_2_14]
    by_cases cm : l.length - w.length < i
    · exact w_pos (nI_lt cm (by omega)) (w_ret ⟨rfl, rfl, rfl, Or.inl ⟨rfl, none_ i cm hno⟩⟩)
    · refine w_neg (nI_nlt (by omega) (by omega)) (w_some (w_rdI h1 (gd_nI (show i < l.length by omega) (by omega)) ?_))
      by_cases ce : f i = g 0
      · exact w_pos ce (b52 i (Nat.le_refl _) (by omega) hno (fun _ => (eqb _ _ (by omega) hw).mp ce))
      · refine w_neg ce (b30 (l.length - w.length + 1 - i) i V.2.2.2.2 (by omega) (by omega) (Nat.le_refl _) (fun i'' hh => ?_))
        by_cases ce2 : i'' = i
        · rw [ce2]; exact ne0 _ (by omega) ce
        · exact hno i'' (by omega)
theorem str_contains {st st' : Prop} (hV : 1200 ≤ V.2.2.2.2) (h : Str V G o d l st) (k : Str V G o' d' w st') (hl : l.length ≤ 150) (hw : 0 < w.length) (hw2 : w.length ≤ 150) : hF_J7_contains V G nx o (some o') = some (if ctn l w then 1 else 0, G, 0, 0) := by
  have hc1 := str_coder (nx := nx) h
  have hc2 := fun nx => str_coder (nx := nx) k
  have hla := fun nx => str_latin (nx := nx) h
  obtain ⟨f, hh, z, a1, a2, a3, a4, a5, -⟩ := id h
  obtain ⟨g, hh', z', b1, b2, b3, b4, b5, -⟩ := id k
  have hX : wH (hF_J7_contains V G nx o (some o')) (fun q G' c s => q = (if ctn l w then 1 else 0) ∧ G' = G ∧ c = 0 ∧ s = 0) := by
    unfold hF_J7_contains hF_J7_toString hF_J7_indexOf hB_J7_contains_18
    refine w_some (w_pos (gC_at b1) (w_call0 rfl (w_pos (gC_at a1) ?_)))
    refine w_call (Q' := IxQ l w G) (w_pos (gC_at a1) (w_call0 hc1 (w_some (w_pos (gC_at b1) (w_call0 (hc2 _) (w_pos rfl (w_pos (gC_at a1) (w_call0 (hla _) (w_neg (by decide) (w_xR a1 rfl rfl (w_xR b1 rfl rfl ?_))))))))))) ?_
    · unfold hF_J12_indexOf
      refine w_cB (w_some (w_aln b2 (w_neg (fun z => by have := (i_zero (by omega)).mp z; omega) (w_some (w_aln a2 ?_)))))
      by_cases c0 : l.length = 0
      · refine w_pos (by rw [c0]; rfl) (w_ret (w_ret ⟨rfl, rfl, rfl, Or.inl ⟨rfl, fun i hm => ?_⟩⟩))
        have := hm.1
        omega
      · refine w_neg (fun z => by have := (i_zero (by omega)).mp z; omega) (w_aln a2 (w_aln b2 ?_))
        unfold hF_J12_indexOf_2
        by_cases c1 : w.length ≤ l.length
        · refine w_call (Q' := IxQ l w G) (w_some (w_rdI b2 (gd_nI (k := 0) hw (by omega)) ?_)) ?_
          · rw [nI_sub c1]
            exact ix_loop hV hl hw c1 a2 a3 b2 b3 a4 b4 (l.length - w.length + 1) 0 V.2.2.2.2 (by omega) (by omega) (by omega) (fun i' hh => absurd hh (Nat.not_lt_zero _))
          · rintro q G1 c s ⟨rfl, rfl, rfl, q4⟩
            exact w_ret (w_ret ⟨rfl, rfl, rfl, q4⟩)
        · refine w_call (Q' := IxQ l w G) (w_some (w_rdI b2 (gd_nI (k := 0) hw (by omega)) ?_)) ?_
          · obtain ⟨m, hm⟩ := Nat.exists_eq_succ_of_ne_zero (show V.2.2.2.2 ≠ 0 by omega)
            rw [hm, hL_J12_indexOf_2_14]
            have hneg : nI l.length - nI w.length < 0 := by
              have key : ∀ a, a < 151 → ∀ b, b < 151 → a < b → nI a - nI b < 0 := by decide +kernel
              exact key _ (by omega) _ (by omega) (by omega)
            refine w_pos hneg (w_ret ⟨rfl, rfl, rfl, Or.inl ⟨rfl, fun i hm => ?_⟩⟩)
            have := hm.1
            omega
          · rintro q G1 c s ⟨rfl, rfl, rfl, q4⟩
            exact w_ret (w_ret ⟨rfl, rfl, rfl, q4⟩)
    · rintro q G1 c s ⟨rfl, rfl, rfl, q4⟩
      rcases q4 with ⟨rfl, q4⟩ | ⟨i, rfl, q4, q5⟩
      · refine w_pos (by decide) (w_pos (by decide) (w_ret ⟨?_, rfl, rfl, rfl⟩))
        rw [if_neg (fun hc => by obtain ⟨i, hm⟩ := (ctn_iff hw).mp hc; exact q4 i hm)]
      · refine w_neg (nI_pos (by omega)) (w_pos (by decide) (w_ret ⟨?_, rfl, rfl, rfl⟩))
        rw [if_pos ((ctn_iff hw).mpr ⟨i, q5⟩)]
  obtain ⟨q, G', c, s, e, rfl, rfl, rfl, rfl⟩ := hX
  exact e
end X

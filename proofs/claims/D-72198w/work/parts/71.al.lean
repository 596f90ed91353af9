/-! PURE 2: constants, Integers, ArrayLists -/
/-- what stands below the base: the empty row of ArrayList, the cache of Integers -/
def Cst (V : HEn) (G : Gh) : Prop :=
  (∃ e0 f, V.2.2.1 0 = some e0 ∧ e0 < V.1 ∧ G e0 = some (.inl (V.2.1 3, 0, .inr (.inr (.inr (.inr f)))))) ∧
  (∃ ca f, V.2.2.1 1 = some ca ∧ ca < V.1 ∧ G ca = some (.inl (V.2.1 6, 256, .inr (.inr (.inr (.inr f))))) ∧ ∀ i, i < 256 → ∃ a, f i = some a ∧ a < V.1 ∧ G a = some (.inr (26, [.int (nI i - 128)])))
theorem Cst.keep {V : HEn} {G G' : Gh} (h : Cst V G) (hk : ∀ a, a < V.1 → G' a = G a) : Cst V G' := by
  obtain ⟨⟨e0, f, h1, h2, h3⟩, ca, g, k1, k2, k3, k4⟩ := h
  refine ⟨⟨e0, f, h1, h2, (hk _ h2).trans h3⟩, ca, g, k1, k2, (hk _ k2).trans k3, fun i hi => ?_⟩
  obtain ⟨a, q1, q2, q3⟩ := k4 i hi
  exact ⟨a, q1, q2, (hk _ q2).trans q3⟩
/-- the Integer of x -/
def IsInt (V : HEn) (G : Gh) (r : Option Nat) (x : Nat) : Prop := ∃ a, r = some a ∧ a < V.1 ∧ G a = some (.inr (26, [.int (nI x)]))
theorem IsInt.keep {V : HEn} {G G' : Gh} {r : Option Nat} {x : Nat} (h : IsInt V G r x) (hk : ∀ a, a < V.1 → G' a = G a) : IsInt V G' r x := by
  obtain ⟨a, h1, h2, h3⟩ := h
  exact ⟨a, h1, h2, (hk _ h2).trans h3⟩
theorem nI_sub {a b : Nat} (h : b ≤ a) : nI a - nI b = nI (a - b) := by
  have := nI_add (a - b) b
  rw [Nat.sub_add_cancel h] at this
  rw [← this]
  exact Int32.add_sub_cancel _ _
theorem valueOf_at {V : HEn} {G : Gh} {nx x : Nat} (hc : Cst V G) (hx : x < 128) : ∃ r, hF_J23_valueOf V G nx (nI x) = some (r, G, 0, 0) ∧ IsInt V G r x := by
  obtain ⟨-, ca, f, k1, k2, k3, k4⟩ := hc
  obtain ⟨a, q1, q2, q3⟩ := k4 (x + 128) (by omega)
  refine ⟨some a, ?_, a, rfl, q2, ?_⟩
  · unfold hF_J23_valueOf
    rw [if_neg (by intro h; exact absurd (Int32.lt_trans (show nI x < (-128 : Int32) from h) (by decide)) (nI_pos (by omega))), if_neg (by intro h; exact absurd h (nI_nlt (a := 127) (b := x) (by omega) (by omega))), k1]
    show (rdR G (V.2.1 6) ca (nI x + 128)).bind _ = _
    rw [show nI x + 128 = nI (x + 128) from nI_add x 128, rdR_at k3 (gd_nI (k := x + 128) (n := 256) (by omega) (by omega))]
    show some (f (x + 128), G, 0, 0) = _
    rw [q1]
  · rw [q3]
    have e : nI (x + 128) - 128 = nI x := (nI_sub (a := x + 128) (b := 128) (by omega)).trans (congrArg nI (by omega))
    rw [e]
theorem intValue_at {V : HEn} {G : Gh} {nx a : Nat} {x : Int32} (h : G a = some (.inr (26, [.int x]))) : hF_J23_intValue V G nx a = some (x, G, 0, 0) := by
  unfold hF_J23_intValue
  rw [xI_at h rfl rfl]
  rfl
/-- an ArrayList at o with its row at d -/
def AL (V : HEn) (G : Gh) (o d : Nat) (l : List (Option Nat)) : Prop := ∃ m n f, G o = some (.inr (8, [.int m, va_rf (some d), .int (nI l.length)])) ∧ G d = some (.inl (V.2.1 3, n, .inr (.inr (.inr (.inr f))))) ∧ l.length ≤ n ∧ (∀ i (h : i < l.length), f i = l[i]) ∧ V.1 ≤ o ∧ o ≠ d ∧ n ≤ 200 ∧ ((V.1 ≤ d ∧ 0 < n) ∨ (some d = V.2.2.1 0 ∧ n = 0))
theorem AL.keep {V : HEn} {G G' : Gh} {o d : Nat} {l : List (Option Nat)} (h : AL V G o d l) (ho : G' o = G o) (hd : G' d = G d) : AL V G' o d l := by
  obtain ⟨m, n, f, h1, h2, h3⟩ := h
  exact ⟨m, n, f, ho.trans h1, hd.trans h2, h3⟩
theorem al_init {V : HEn} {G : Gh} {nx o e0 : Nat} {f} (h : G o = some (.inr (8, [.int 0, .null, .int 0]))) (hb : V.1 ≤ o) (h0 : V.2.2.1 0 = some e0) (h1 : e0 < V.1) (h2 : G e0 = some (.inl (V.2.1 3, 0, .inr (.inr (.inr (.inr f)))))) : wH (hF_J2_init V G nx o) (fun _ G' c s => AL V G' o e0 [] ∧ (∀ a, a ≠ o → G' a = G a) ∧ c = 0 ∧ s = 0) := by
  have hne : o ≠ e0 := by omega
  unfold hF_J2_init hF_J1_init hF_J0_init
  rw [h0]
  apply w_cB
  apply w_cB
  apply w_ret
  (repeat (first | (with_reducible apply w_some) | ((with_reducible apply w_xI); (first | assumption | exact gset_eq _ _ _ | ((repeat (first | exact gset_eq _ _ _ | refine (gset_ne _ _ (by first | assumption | omega | exact Ne.symm (by assumption))).trans ?_)) <;> assumption)); rfl; rfl) | ((with_reducible apply w_xR); (first | assumption | exact gset_eq _ _ _ | ((repeat (first | exact gset_eq _ _ _ | refine (gset_ne _ _ (by first | assumption | omega | exact Ne.symm (by assumption))).trans ?_)) <;> assumption)); rfl; rfl) | ((with_reducible apply w_xR0); (first | assumption | exact gset_eq _ _ _ | ((repeat (first | exact gset_eq _ _ _ | refine (gset_ne _ _ (by first | assumption | omega | exact Ne.symm (by assumption))).trans ?_)) <;> assumption)); rfl; rfl) | ((with_reducible apply w_xF); (first | assumption | exact gset_eq _ _ _ | ((repeat (first | exact gset_eq _ _ _ | refine (gset_ne _ _ (by first | assumption | omega | exact Ne.symm (by assumption))).trans ?_)) <;> assumption)); rfl; exact Nat.le_of_ble_eq_true rfl; (first | assumption | omega); rfl) | ((with_reducible apply w_gC); (first | assumption | exact gset_eq _ _ _ | ((repeat (first | exact gset_eq _ _ _ | refine (gset_ne _ _ (by first | assumption | omega | exact Ne.symm (by assumption))).trans ?_)) <;> assumption))) | ((with_reducible apply w_aln); (first | assumption | exact gset_eq _ _ _ | ((repeat (first | exact gset_eq _ _ _ | refine (gset_ne _ _ (by first | assumption | omega | exact Ne.symm (by assumption))).trans ?_)) <;> assumption))) | (with_reducible apply w_nmv) | (with_reducible apply w_tick)))
  apply w_ret
  (repeat (first | (with_reducible apply w_some) | ((with_reducible apply w_xI); (first | assumption | exact gset_eq _ _ _ | ((repeat (first | exact gset_eq _ _ _ | refine (gset_ne _ _ (by first | assumption | omega | exact Ne.symm (by assumption))).trans ?_)) <;> assumption)); rfl; rfl) | ((with_reducible apply w_xR); (first | assumption | exact gset_eq _ _ _ | ((repeat (first | exact gset_eq _ _ _ | refine (gset_ne _ _ (by first | assumption | omega | exact Ne.symm (by assumption))).trans ?_)) <;> assumption)); rfl; rfl) | ((with_reducible apply w_xR0); (first | assumption | exact gset_eq _ _ _ | ((repeat (first | exact gset_eq _ _ _ | refine (gset_ne _ _ (by first | assumption | omega | exact Ne.symm (by assumption))).trans ?_)) <;> assumption)); rfl; rfl) | ((with_reducible apply w_xF); (first | assumption | exact gset_eq _ _ _ | ((repeat (first | exact gset_eq _ _ _ | refine (gset_ne _ _ (by first | assumption | omega | exact Ne.symm (by assumption))).trans ?_)) <;> assumption)); rfl; exact Nat.le_of_ble_eq_true rfl; (first | assumption | omega); rfl) | ((with_reducible apply w_gC); (first | assumption | exact gset_eq _ _ _ | ((repeat (first | exact gset_eq _ _ _ | refine (gset_ne _ _ (by first | assumption | omega | exact Ne.symm (by assumption))).trans ?_)) <;> assumption))) | ((with_reducible apply w_aln); (first | assumption | exact gset_eq _ _ _ | ((repeat (first | exact gset_eq _ _ _ | refine (gset_ne _ _ (by first | assumption | omega | exact Ne.symm (by assumption))).trans ?_)) <;> assumption))) | (with_reducible apply w_nmv) | (with_reducible apply w_tick)))
  apply w_ret
  refine ⟨⟨0, 0, f, gset_eq _ _ _, ?_, Nat.le_refl _, fun i h => absurd h (Nat.not_lt_zero _), hb, hne, by omega, Or.inr ⟨h0.symm, rfl⟩⟩, fun a ha => ?_, rfl, rfl⟩
  · rw [gset_ne _ _ (Ne.symm hne), gset_ne _ _ (Ne.symm hne)]; exact h2
  · rw [gset_ne _ _ ha, gset_ne _ _ ha]
theorem al_size {V : HEn} {G : Gh} {nx o d : Nat} {l : List (Option Nat)} (h : AL V G o d l) : hF_J2_size V G nx o = some (nI l.length, G, 0, 0) := by
  obtain ⟨m, n, f, h1, h2, h3⟩ := h
  unfold hF_J2_size
  rw [xI_at h1 rfl rfl]
  rfl
theorem al_get {V : HEn} {G : Gh} {nx o d : Nat} {l : List (Option Nat)} (h : AL V G o d l) {i : Nat} (hi : i < l.length) : hF_J2_get V G nx o (nI i) = some (l[i], G, 0, 0) := by
  obtain ⟨m, n, f, h1, h2, h3, h4, h5, h6, h7, h8⟩ := h
  have hw : wH (hF_J2_get V G nx o (nI i)) (fun r G' c s => r = l[i] ∧ G' = G ∧ c = 0 ∧ s = 0) := by
    unfold hF_J2_get hF_J26_checkIndex hF_J13_checkIndex hF_J2_elementData
    (repeat (first | (with_reducible apply w_some) | ((with_reducible apply w_xI); (first | assumption | exact gset_eq _ _ _ | ((repeat (first | exact gset_eq _ _ _ | refine (gset_ne _ _ (by first | assumption | omega | exact Ne.symm (by assumption))).trans ?_)) <;> assumption)); rfl; rfl) | ((with_reducible apply w_xR); (first | assumption | exact gset_eq _ _ _ | ((repeat (first | exact gset_eq _ _ _ | refine (gset_ne _ _ (by first | assumption | omega | exact Ne.symm (by assumption))).trans ?_)) <;> assumption)); rfl; rfl) | ((with_reducible apply w_xR0); (first | assumption | exact gset_eq _ _ _ | ((repeat (first | exact gset_eq _ _ _ | refine (gset_ne _ _ (by first | assumption | omega | exact Ne.symm (by assumption))).trans ?_)) <;> assumption)); rfl; rfl) | ((with_reducible apply w_xF); (first | assumption | exact gset_eq _ _ _ | ((repeat (first | exact gset_eq _ _ _ | refine (gset_ne _ _ (by first | assumption | omega | exact Ne.symm (by assumption))).trans ?_)) <;> assumption)); rfl; exact Nat.le_of_ble_eq_true rfl; (first | assumption | omega); rfl) | ((with_reducible apply w_gC); (first | assumption | exact gset_eq _ _ _ | ((repeat (first | exact gset_eq _ _ _ | refine (gset_ne _ _ (by first | assumption | omega | exact Ne.symm (by assumption))).trans ?_)) <;> assumption))) | ((with_reducible apply w_aln); (first | assumption | exact gset_eq _ _ _ | ((repeat (first | exact gset_eq _ _ _ | refine (gset_ne _ _ (by first | assumption | omega | exact Ne.symm (by assumption))).trans ?_)) <;> assumption))) | (with_reducible apply w_nmv) | (with_reducible apply w_tick)))
    apply w_cB
    apply w_cB
    refine w_neg (nI_pos (by omega)) (w_pos (nI_lt hi (by omega)) (w_ret (w_ret ?_)))
    (repeat (first | (with_reducible apply w_some) | ((with_reducible apply w_xI); (first | assumption | exact gset_eq _ _ _ | ((repeat (first | exact gset_eq _ _ _ | refine (gset_ne _ _ (by first | assumption | omega | exact Ne.symm (by assumption))).trans ?_)) <;> assumption)); rfl; rfl) | ((with_reducible apply w_xR); (first | assumption | exact gset_eq _ _ _ | ((repeat (first | exact gset_eq _ _ _ | refine (gset_ne _ _ (by first | assumption | omega | exact Ne.symm (by assumption))).trans ?_)) <;> assumption)); rfl; rfl) | ((with_reducible apply w_xR0); (first | assumption | exact gset_eq _ _ _ | ((repeat (first | exact gset_eq _ _ _ | refine (gset_ne _ _ (by first | assumption | omega | exact Ne.symm (by assumption))).trans ?_)) <;> assumption)); rfl; rfl) | ((with_reducible apply w_xF); (first | assumption | exact gset_eq _ _ _ | ((repeat (first | exact gset_eq _ _ _ | refine (gset_ne _ _ (by first | assumption | omega | exact Ne.symm (by assumption))).trans ?_)) <;> assumption)); rfl; exact Nat.le_of_ble_eq_true rfl; (first | assumption | omega); rfl) | ((with_reducible apply w_gC); (first | assumption | exact gset_eq _ _ _ | ((repeat (first | exact gset_eq _ _ _ | refine (gset_ne _ _ (by first | assumption | omega | exact Ne.symm (by assumption))).trans ?_)) <;> assumption))) | ((with_reducible apply w_aln); (first | assumption | exact gset_eq _ _ _ | ((repeat (first | exact gset_eq _ _ _ | refine (gset_ne _ _ (by first | assumption | omega | exact Ne.symm (by assumption))).trans ?_)) <;> assumption))) | (with_reducible apply w_nmv) | (with_reducible apply w_tick)))
    apply w_cB
    (repeat (first | (with_reducible apply w_some) | ((with_reducible apply w_xI); (first | assumption | exact gset_eq _ _ _ | ((repeat (first | exact gset_eq _ _ _ | refine (gset_ne _ _ (by first | assumption | omega | exact Ne.symm (by assumption))).trans ?_)) <;> assumption)); rfl; rfl) | ((with_reducible apply w_xR); (first | assumption | exact gset_eq _ _ _ | ((repeat (first | exact gset_eq _ _ _ | refine (gset_ne _ _ (by first | assumption | omega | exact Ne.symm (by assumption))).trans ?_)) <;> assumption)); rfl; rfl) | ((with_reducible apply w_xR0); (first | assumption | exact gset_eq _ _ _ | ((repeat (first | exact gset_eq _ _ _ | refine (gset_ne _ _ (by first | assumption | omega | exact Ne.symm (by assumption))).trans ?_)) <;> assumption)); rfl; rfl) | ((with_reducible apply w_xF); (first | assumption | exact gset_eq _ _ _ | ((repeat (first | exact gset_eq _ _ _ | refine (gset_ne _ _ (by first | assumption | omega | exact Ne.symm (by assumption))).trans ?_)) <;> assumption)); rfl; exact Nat.le_of_ble_eq_true rfl; (first | assumption | omega); rfl) | ((with_reducible apply w_gC); (first | assumption | exact gset_eq _ _ _ | ((repeat (first | exact gset_eq _ _ _ | refine (gset_ne _ _ (by first | assumption | omega | exact Ne.symm (by assumption))).trans ?_)) <;> assumption))) | ((with_reducible apply w_aln); (first | assumption | exact gset_eq _ _ _ | ((repeat (first | exact gset_eq _ _ _ | refine (gset_ne _ _ (by first | assumption | omega | exact Ne.symm (by assumption))).trans ?_)) <;> assumption))) | (with_reducible apply w_nmv) | (with_reducible apply w_tick)))
    refine w_rdR h2 (gd_nI (by omega) (by omega)) (w_ret (w_ret ?_))
    exact ⟨h4 i hi, rfl, rfl, rfl⟩
  obtain ⟨r, G', c, s, e, rfl, rfl, rfl, rfl⟩ := hw
  exact e

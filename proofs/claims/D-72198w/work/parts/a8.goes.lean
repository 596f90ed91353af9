/-! PURE 65: RunWatch.goesThrough -/
abbrev xcell (d0 da dm ia ro : Nat) (st : Nat × Nat × Nat) (tx : Nat) : va_E := .inr (0, [va_rf (some d0), va_rf (some da), .int (nI dm), va_rf (some ia), va_rf (some ro), .int (nI st.1), .int (nI st.2.1), .int (nI st.2.2), va_rf (some tx)])
abbrev rcell (r : Rw) : va_E := .inr (6, [.int (nI r.1), .int (nI r.2.1), .int (nI r.2.2.1), .int (nI r.2.2.2.1), .int (nI r.2.2.2.2.1), .int (nI r.2.2.2.2.2.1), .int (nI r.2.2.2.2.2.2)])
theorem i_up : ∀ u, u < 10 → ∀ s, s < 5 → ∀ k, k < 3 → (if (0 : Int32) < (((nI u + nI s) - 2) - nI k) then (((nI u + nI s) - 2) - nI k) else (0 : Int32)) = nI (u + s - (2 + k)) := by decide +kernel
theorem i_dn : ∀ d, d < 10 → ∀ s, s < 5 → ∀ k, k < 3 → (if (0 : Int32) < (((nI d - nI s) + 2) - nI k) then (((nI d - nI s) + 2) - nI k) else (0 : Int32)) = nI (d + 2 - (s + k)) := by decide +kernel
theorem i_mx {u d l : Nat} (hu : u < 100) (hd : d < 100) (hl : l < 100) : (if nI u < nI d then nI d else nI u) ≤ nI l ↔ (u ≤ l ∧ d ≤ l) := by
  by_cases c : u < d
  · rw [if_pos (nI_lt c (by omega)), nI_leq (by omega) (by omega)]; omega
  · rw [if_neg (nI_nlt (by omega) (by omega)), nI_leq (by omega) (by omega)]; omega
theorem i_zero {m : Nat} (h : m < 2 ^ 31) : nI m = 0 ↔ m = 0 := nI_eq (b := 0) h (by omega)
theorem TMx.lt {V : HEn} {G : Gh} {o : Nat} {N : Nat → Prop} {kv vv : Nat → Option Nat} {ps : Nat → Nat} {mc : Int32} {es ks : Option Nat} {l : List (Nat × Nat)} (h : TMx V G o N kv vv ps mc es ks l) : ∀ a, N a → ps a < l.length := by
  obtain ⟨⟨x0, x1, x8, root, lf, rt, pa, co, lo, hi, h1, h2, h3⟩, h4⟩ := h
  intro a ha
  have := h3.1 a ha
  omega
theorem go_143 {V : HEn} {G6 : Gh} {xo d0 da dm ia ro tx po to lo ch rn nx6 it q : Nat} {p : Pn} {mcx : Option Nat} {st : Nat × Nat × Nat} {y : Nat × Nat} {fro : List Value} {k40 : Gh → Nat → Option Nat → HO Unit} {Q : Unit → Gh → Nat → Nat → Prop} (hX6 : G6 xo = some (xcell d0 da dm ia ro st tx)) (hD6 : G6 d0 = some (.inr (1, [va_rf (some po), va_rf (some to)]))) (hP6 : G6 po = some (pcell lo ch p mcx)) (hN6 : G6 rn = some (.inr (6, [.int (nI y.1), .int (nI y.2), .int (nI (pM p.1 st.1 y.2)), .int 0, .int 0, .int 0, .int 0]))) (hro : G6 ro = some (.inr (8, fro)))
    (b1 : V.1 ≤ rn) (b2 : V.1 ≤ xo) (e1 : xo ≠ rn) (e2 : d0 ≠ rn) (e3 : po ≠ rn) (e4 : d0 ≠ xo) (e5 : po ≠ xo) (e6 : ro ≠ xo) (e7 : ro ≠ rn) (hu9 : st.2.1 ≤ 9) (hd9 : st.2.2 ≤ 9) (hy4 : y.2 ≤ 4) (hp4 : p.2.2.1 ≤ 2) (hp6 : p.2.2.2 ≤ 9) (hq : q = (if pM p.1 st.1 y.2 = 0 then pB p.1 st.1 y.2 else 0))
    (K : ∀ (G7 : Gh), (∀ b, b ≠ xo → b ≠ rn → G7 b = G6 b) → G7 xo = some (xcell d0 da dm ia ro (rSt (gRow p st y)) tx) → G7 rn = some (rcell (gRow p st y)) → wH (cB (hF_J2_add V G7 nx6 ro (some rn)) fun _ G21 c22 => k40 G21 (nx6 + c22) (some it)) Q) :
    wH (hB_X0_goesThrough_143 V xo k40 G6 nx6 (some xo) (nI q) (some it) (some rn)) Q := by
  have e1' : rn ≠ xo := Ne.symm e1
  have iu := i_up st.2.1 (by omega) y.2 (by omega) p.2.2.1 (by omega)
  have id_ := i_dn st.2.2 (by omega) y.2 (by omega) p.2.2.1 (by omega)
  have mx := i_mx (u := st.2.1 + y.2 - (2 + p.2.2.1)) (d := st.2.2 + 2 - (y.2 + p.2.2.1)) (l := p.2.2.2) (by omega) (by omega) (by omega)
  have hr : gRow p st y = (y.1, y.2, pM p.1 st.1 y.2, q, (if st.2.1 + y.2 - (2 + p.2.2.1) ≤ p.2.2.2 ∧ st.2.2 + 2 - (y.2 + p.2.2.1) ≤ p.2.2.2 then st.2.1 + y.2 - (2 + p.2.2.1) else 0), (if st.2.1 + y.2 - (2 + p.2.2.1) ≤ p.2.2.2 ∧ st.2.2 + 2 - (y.2 + p.2.2.1) ≤ p.2.2.2 then st.2.2 + 2 - (y.2 + p.2.2.1) else 0), (if st.2.1 + y.2 - (2 + p.2.2.1) ≤ p.2.2.2 ∧ st.2.2 + 2 - (y.2 + p.2.2.1) ≤ p.2.2.2 then 0 else 1)) := by
    rw [hq]
    unfold gRow
    by_cases c : st.2.1 + y.2 - (2 + p.2.2.1) ≤ p.2.2.2 ∧ st.2.2 + 2 - (y.2 + p.2.2.1) ≤ p.2.2.2
    · simp only [if_pos c, if_true]
    · simp only [if_neg c]
      rfl
  generalize hu : st.2.1 + y.2 - (2 + p.2.2.1) = u at *
  generalize hd : st.2.2 + 2 - (y.2 + p.2.2.1) = d at *
  unfold hB_X0_goesThrough_143
  (repeat (first | (with_reducible apply w_some) | ((with_reducible apply w_xI); (first | assumption | exact gset_eq _ _ _ | ((repeat (first | exact gset_eq _ _ _ | refine (gset_ne _ _ (by first | assumption | omega | exact Ne.symm (by assumption))).trans ?_)) <;> assumption)); rfl; rfl) | ((with_reducible apply w_xR); (first | assumption | exact gset_eq _ _ _ | ((repeat (first | exact gset_eq _ _ _ | refine (gset_ne _ _ (by first | assumption | omega | exact Ne.symm (by assumption))).trans ?_)) <;> assumption)); rfl; rfl) | ((with_reducible apply w_xR0); (first | assumption | exact gset_eq _ _ _ | ((repeat (first | exact gset_eq _ _ _ | refine (gset_ne _ _ (by first | assumption | omega | exact Ne.symm (by assumption))).trans ?_)) <;> assumption)); rfl; rfl) | ((with_reducible apply w_xF); (first | assumption | exact gset_eq _ _ _ | ((repeat (first | exact gset_eq _ _ _ | refine (gset_ne _ _ (by first | assumption | omega | exact Ne.symm (by assumption))).trans ?_)) <;> assumption)); rfl; exact Nat.le_of_ble_eq_true rfl; (first | assumption | omega); rfl) | ((with_reducible apply w_gC); (first | assumption | exact gset_eq _ _ _ | ((repeat (first | exact gset_eq _ _ _ | refine (gset_ne _ _ (by first | assumption | omega | exact Ne.symm (by assumption))).trans ?_)) <;> assumption))) | ((with_reducible apply w_aln); (first | assumption | exact gset_eq _ _ _ | ((repeat (first | exact gset_eq _ _ _ | refine (gset_ne _ _ (by first | assumption | omega | exact Ne.symm (by assumption))).trans ?_)) <;> assumption))) | (with_reducible apply w_nmv) | (with_reducible apply w_tick)))
  rw [iu, id_]
  by_cases c : u ≤ p.2.2.2 ∧ d ≤ p.2.2.2
  · refine w_pos (mx.mpr c) ?_
    unfold hB_X0_goesThrough_244
    (with_reducible apply w_some)
    refine w_pos (Or.inl rfl) ?_
    (repeat (first | (with_reducible apply w_some) | ((with_reducible apply w_xI); (first | assumption | exact gset_eq _ _ _ | ((repeat (first | exact gset_eq _ _ _ | refine (gset_ne _ _ (by first | assumption | omega | exact Ne.symm (by assumption))).trans ?_)) <;> assumption)); rfl; rfl) | ((with_reducible apply w_xR); (first | assumption | exact gset_eq _ _ _ | ((repeat (first | exact gset_eq _ _ _ | refine (gset_ne _ _ (by first | assumption | omega | exact Ne.symm (by assumption))).trans ?_)) <;> assumption)); rfl; rfl) | ((with_reducible apply w_xR0); (first | assumption | exact gset_eq _ _ _ | ((repeat (first | exact gset_eq _ _ _ | refine (gset_ne _ _ (by first | assumption | omega | exact Ne.symm (by assumption))).trans ?_)) <;> assumption)); rfl; rfl) | ((with_reducible apply w_xF); (first | assumption | exact gset_eq _ _ _ | ((repeat (first | exact gset_eq _ _ _ | refine (gset_ne _ _ (by first | assumption | omega | exact Ne.symm (by assumption))).trans ?_)) <;> assumption)); rfl; exact Nat.le_of_ble_eq_true rfl; (first | assumption | omega); rfl) | ((with_reducible apply w_gC); (first | assumption | exact gset_eq _ _ _ | ((repeat (first | exact gset_eq _ _ _ | refine (gset_ne _ _ (by first | assumption | omega | exact Ne.symm (by assumption))).trans ?_)) <;> assumption))) | ((with_reducible apply w_aln); (first | assumption | exact gset_eq _ _ _ | ((repeat (first | exact gset_eq _ _ _ | refine (gset_ne _ _ (by first | assumption | omega | exact Ne.symm (by assumption))).trans ?_)) <;> assumption))) | (with_reducible apply w_nmv) | (with_reducible apply w_tick)))
    refine w_pos rfl ?_
    (repeat (first | (with_reducible apply w_some) | ((with_reducible apply w_xI); (first | assumption | exact gset_eq _ _ _ | ((repeat (first | exact gset_eq _ _ _ | refine (gset_ne _ _ (by first | assumption | omega | exact Ne.symm (by assumption))).trans ?_)) <;> assumption)); rfl; rfl) | ((with_reducible apply w_xR); (first | assumption | exact gset_eq _ _ _ | ((repeat (first | exact gset_eq _ _ _ | refine (gset_ne _ _ (by first | assumption | omega | exact Ne.symm (by assumption))).trans ?_)) <;> assumption)); rfl; rfl) | ((with_reducible apply w_xR0); (first | assumption | exact gset_eq _ _ _ | ((repeat (first | exact gset_eq _ _ _ | refine (gset_ne _ _ (by first | assumption | omega | exact Ne.symm (by assumption))).trans ?_)) <;> assumption)); rfl; rfl) | ((with_reducible apply w_xF); (first | assumption | exact gset_eq _ _ _ | ((repeat (first | exact gset_eq _ _ _ | refine (gset_ne _ _ (by first | assumption | omega | exact Ne.symm (by assumption))).trans ?_)) <;> assumption)); rfl; exact Nat.le_of_ble_eq_true rfl; (first | assumption | omega); rfl) | ((with_reducible apply w_gC); (first | assumption | exact gset_eq _ _ _ | ((repeat (first | exact gset_eq _ _ _ | refine (gset_ne _ _ (by first | assumption | omega | exact Ne.symm (by assumption))).trans ?_)) <;> assumption))) | ((with_reducible apply w_aln); (first | assumption | exact gset_eq _ _ _ | ((repeat (first | exact gset_eq _ _ _ | refine (gset_ne _ _ (by first | assumption | omega | exact Ne.symm (by assumption))).trans ?_)) <;> assumption))) | (with_reducible apply w_nmv) | (with_reducible apply w_tick)))
    unfold hB_X0_goesThrough_263
    (repeat (first | (with_reducible apply w_some) | ((with_reducible apply w_xI); (first | assumption | exact gset_eq _ _ _ | ((repeat (first | exact gset_eq _ _ _ | refine (gset_ne _ _ (by first | assumption | omega | exact Ne.symm (by assumption))).trans ?_)) <;> assumption)); rfl; rfl) | ((with_reducible apply w_xR); (first | assumption | exact gset_eq _ _ _ | ((repeat (first | exact gset_eq _ _ _ | refine (gset_ne _ _ (by first | assumption | omega | exact Ne.symm (by assumption))).trans ?_)) <;> assumption)); rfl; rfl) | ((with_reducible apply w_xR0); (first | assumption | exact gset_eq _ _ _ | ((repeat (first | exact gset_eq _ _ _ | refine (gset_ne _ _ (by first | assumption | omega | exact Ne.symm (by assumption))).trans ?_)) <;> assumption)); rfl; rfl) | ((with_reducible apply w_xF); (first | assumption | exact gset_eq _ _ _ | ((repeat (first | exact gset_eq _ _ _ | refine (gset_ne _ _ (by first | assumption | omega | exact Ne.symm (by assumption))).trans ?_)) <;> assumption)); rfl; exact Nat.le_of_ble_eq_true rfl; (first | assumption | omega); rfl) | ((with_reducible apply w_gC); (first | assumption | exact gset_eq _ _ _ | ((repeat (first | exact gset_eq _ _ _ | refine (gset_ne _ _ (by first | assumption | omega | exact Ne.symm (by assumption))).trans ?_)) <;> assumption))) | ((with_reducible apply w_aln); (first | assumption | exact gset_eq _ _ _ | ((repeat (first | exact gset_eq _ _ _ | refine (gset_ne _ _ (by first | assumption | omega | exact Ne.symm (by assumption))).trans ?_)) <;> assumption))) | (with_reducible apply w_nmv) | (with_reducible apply w_tick)))
    refine w_pos rfl ?_
    (repeat (first | (with_reducible apply w_some) | ((with_reducible apply w_xI); (first | assumption | exact gset_eq _ _ _ | ((repeat (first | exact gset_eq _ _ _ | refine (gset_ne _ _ (by first | assumption | omega | exact Ne.symm (by assumption))).trans ?_)) <;> assumption)); rfl; rfl) | ((with_reducible apply w_xR); (first | assumption | exact gset_eq _ _ _ | ((repeat (first | exact gset_eq _ _ _ | refine (gset_ne _ _ (by first | assumption | omega | exact Ne.symm (by assumption))).trans ?_)) <;> assumption)); rfl; rfl) | ((with_reducible apply w_xR0); (first | assumption | exact gset_eq _ _ _ | ((repeat (first | exact gset_eq _ _ _ | refine (gset_ne _ _ (by first | assumption | omega | exact Ne.symm (by assumption))).trans ?_)) <;> assumption)); rfl; rfl) | ((with_reducible apply w_xF); (first | assumption | exact gset_eq _ _ _ | ((repeat (first | exact gset_eq _ _ _ | refine (gset_ne _ _ (by first | assumption | omega | exact Ne.symm (by assumption))).trans ?_)) <;> assumption)); rfl; exact Nat.le_of_ble_eq_true rfl; (first | assumption | omega); rfl) | ((with_reducible apply w_gC); (first | assumption | exact gset_eq _ _ _ | ((repeat (first | exact gset_eq _ _ _ | refine (gset_ne _ _ (by first | assumption | omega | exact Ne.symm (by assumption))).trans ?_)) <;> assumption))) | ((with_reducible apply w_aln); (first | assumption | exact gset_eq _ _ _ | ((repeat (first | exact gset_eq _ _ _ | refine (gset_ne _ _ (by first | assumption | omega | exact Ne.symm (by assumption))).trans ?_)) <;> assumption))) | (with_reducible apply w_nmv) | (with_reducible apply w_tick)))
    unfold hB_X0_goesThrough_282
    (repeat (first | (with_reducible apply w_some) | ((with_reducible apply w_xI); (first | assumption | exact gset_eq _ _ _ | ((repeat (first | exact gset_eq _ _ _ | refine (gset_ne _ _ (by first | assumption | omega | exact Ne.symm (by assumption))).trans ?_)) <;> assumption)); rfl; rfl) | ((with_reducible apply w_xR); (first | assumption | exact gset_eq _ _ _ | ((repeat (first | exact gset_eq _ _ _ | refine (gset_ne _ _ (by first | assumption | omega | exact Ne.symm (by assumption))).trans ?_)) <;> assumption)); rfl; rfl) | ((with_reducible apply w_xR0); (first | assumption | exact gset_eq _ _ _ | ((repeat (first | exact gset_eq _ _ _ | refine (gset_ne _ _ (by first | assumption | omega | exact Ne.symm (by assumption))).trans ?_)) <;> assumption)); rfl; rfl) | ((with_reducible apply w_xF); (first | assumption | exact gset_eq _ _ _ | ((repeat (first | exact gset_eq _ _ _ | refine (gset_ne _ _ (by first | assumption | omega | exact Ne.symm (by assumption))).trans ?_)) <;> assumption)); rfl; exact Nat.le_of_ble_eq_true rfl; (first | assumption | omega); rfl) | ((with_reducible apply w_gC); (first | assumption | exact gset_eq _ _ _ | ((repeat (first | exact gset_eq _ _ _ | refine (gset_ne _ _ (by first | assumption | omega | exact Ne.symm (by assumption))).trans ?_)) <;> assumption))) | ((with_reducible apply w_aln); (first | assumption | exact gset_eq _ _ _ | ((repeat (first | exact gset_eq _ _ _ | refine (gset_ne _ _ (by first | assumption | omega | exact Ne.symm (by assumption))).trans ?_)) <;> assumption))) | (with_reducible apply w_nmv) | (with_reducible apply w_tick)))
    rw [hr] at K
    simp only [if_pos c] at K
    refine K _ (fun b w1 w2 => by simp only [gset_ne _ _ w1, gset_ne _ _ w2]) ?_ ?_
    · rw [gset_ne _ _ e1, gset_ne _ _ e1]; exact gset_eq _ _ _
    · exact gset_eq _ _ _
  · refine w_neg (fun z => c (mx.mp z)) ?_
    unfold hB_X0_goesThrough_244
    (with_reducible apply w_some)
    refine w_pos (Or.inr rfl) ?_
    (repeat (first | (with_reducible apply w_some) | ((with_reducible apply w_xI); (first | assumption | exact gset_eq _ _ _ | ((repeat (first | exact gset_eq _ _ _ | refine (gset_ne _ _ (by first | assumption | omega | exact Ne.symm (by assumption))).trans ?_)) <;> assumption)); rfl; rfl) | ((with_reducible apply w_xR); (first | assumption | exact gset_eq _ _ _ | ((repeat (first | exact gset_eq _ _ _ | refine (gset_ne _ _ (by first | assumption | omega | exact Ne.symm (by assumption))).trans ?_)) <;> assumption)); rfl; rfl) | ((with_reducible apply w_xR0); (first | assumption | exact gset_eq _ _ _ | ((repeat (first | exact gset_eq _ _ _ | refine (gset_ne _ _ (by first | assumption | omega | exact Ne.symm (by assumption))).trans ?_)) <;> assumption)); rfl; rfl) | ((with_reducible apply w_xF); (first | assumption | exact gset_eq _ _ _ | ((repeat (first | exact gset_eq _ _ _ | refine (gset_ne _ _ (by first | assumption | omega | exact Ne.symm (by assumption))).trans ?_)) <;> assumption)); rfl; exact Nat.le_of_ble_eq_true rfl; (first | assumption | omega); rfl) | ((with_reducible apply w_gC); (first | assumption | exact gset_eq _ _ _ | ((repeat (first | exact gset_eq _ _ _ | refine (gset_ne _ _ (by first | assumption | omega | exact Ne.symm (by assumption))).trans ?_)) <;> assumption))) | ((with_reducible apply w_aln); (first | assumption | exact gset_eq _ _ _ | ((repeat (first | exact gset_eq _ _ _ | refine (gset_ne _ _ (by first | assumption | omega | exact Ne.symm (by assumption))).trans ?_)) <;> assumption))) | (with_reducible apply w_nmv) | (with_reducible apply w_tick)))
    refine w_neg (by decide) ?_
    (repeat (first | (with_reducible apply w_some) | ((with_reducible apply w_xI); (first | assumption | exact gset_eq _ _ _ | ((repeat (first | exact gset_eq _ _ _ | refine (gset_ne _ _ (by first | assumption | omega | exact Ne.symm (by assumption))).trans ?_)) <;> assumption)); rfl; rfl) | ((with_reducible apply w_xR); (first | assumption | exact gset_eq _ _ _ | ((repeat (first | exact gset_eq _ _ _ | refine (gset_ne _ _ (by first | assumption | omega | exact Ne.symm (by assumption))).trans ?_)) <;> assumption)); rfl; rfl) | ((with_reducible apply w_xR0); (first | assumption | exact gset_eq _ _ _ | ((repeat (first | exact gset_eq _ _ _ | refine (gset_ne _ _ (by first | assumption | omega | exact Ne.symm (by assumption))).trans ?_)) <;> assumption)); rfl; rfl) | ((with_reducible apply w_xF); (first | assumption | exact gset_eq _ _ _ | ((repeat (first | exact gset_eq _ _ _ | refine (gset_ne _ _ (by first | assumption | omega | exact Ne.symm (by assumption))).trans ?_)) <;> assumption)); rfl; exact Nat.le_of_ble_eq_true rfl; (first | assumption | omega); rfl) | ((with_reducible apply w_gC); (first | assumption | exact gset_eq _ _ _ | ((repeat (first | exact gset_eq _ _ _ | refine (gset_ne _ _ (by first | assumption | omega | exact Ne.symm (by assumption))).trans ?_)) <;> assumption))) | ((with_reducible apply w_aln); (first | assumption | exact gset_eq _ _ _ | ((repeat (first | exact gset_eq _ _ _ | refine (gset_ne _ _ (by first | assumption | omega | exact Ne.symm (by assumption))).trans ?_)) <;> assumption))) | (with_reducible apply w_nmv) | (with_reducible apply w_tick)))
    unfold hB_X0_goesThrough_263
    (repeat (first | (with_reducible apply w_some) | ((with_reducible apply w_xI); (first | assumption | exact gset_eq _ _ _ | ((repeat (first | exact gset_eq _ _ _ | refine (gset_ne _ _ (by first | assumption | omega | exact Ne.symm (by assumption))).trans ?_)) <;> assumption)); rfl; rfl) | ((with_reducible apply w_xR); (first | assumption | exact gset_eq _ _ _ | ((repeat (first | exact gset_eq _ _ _ | refine (gset_ne _ _ (by first | assumption | omega | exact Ne.symm (by assumption))).trans ?_)) <;> assumption)); rfl; rfl) | ((with_reducible apply w_xR0); (first | assumption | exact gset_eq _ _ _ | ((repeat (first | exact gset_eq _ _ _ | refine (gset_ne _ _ (by first | assumption | omega | exact Ne.symm (by assumption))).trans ?_)) <;> assumption)); rfl; rfl) | ((with_reducible apply w_xF); (first | assumption | exact gset_eq _ _ _ | ((repeat (first | exact gset_eq _ _ _ | refine (gset_ne _ _ (by first | assumption | omega | exact Ne.symm (by assumption))).trans ?_)) <;> assumption)); rfl; exact Nat.le_of_ble_eq_true rfl; (first | assumption | omega); rfl) | ((with_reducible apply w_gC); (first | assumption | exact gset_eq _ _ _ | ((repeat (first | exact gset_eq _ _ _ | refine (gset_ne _ _ (by first | assumption | omega | exact Ne.symm (by assumption))).trans ?_)) <;> assumption))) | ((with_reducible apply w_aln); (first | assumption | exact gset_eq _ _ _ | ((repeat (first | exact gset_eq _ _ _ | refine (gset_ne _ _ (by first | assumption | omega | exact Ne.symm (by assumption))).trans ?_)) <;> assumption))) | (with_reducible apply w_nmv) | (with_reducible apply w_tick)))
    refine w_neg (by decide) ?_
    (repeat (first | (with_reducible apply w_some) | ((with_reducible apply w_xI); (first | assumption | exact gset_eq _ _ _ | ((repeat (first | exact gset_eq _ _ _ | refine (gset_ne _ _ (by first | assumption | omega | exact Ne.symm (by assumption))).trans ?_)) <;> assumption)); rfl; rfl) | ((with_reducible apply w_xR); (first | assumption | exact gset_eq _ _ _ | ((repeat (first | exact gset_eq _ _ _ | refine (gset_ne _ _ (by first | assumption | omega | exact Ne.symm (by assumption))).trans ?_)) <;> assumption)); rfl; rfl) | ((with_reducible apply w_xR0); (first | assumption | exact gset_eq _ _ _ | ((repeat (first | exact gset_eq _ _ _ | refine (gset_ne _ _ (by first | assumption | omega | exact Ne.symm (by assumption))).trans ?_)) <;> assumption)); rfl; rfl) | ((with_reducible apply w_xF); (first | assumption | exact gset_eq _ _ _ | ((repeat (first | exact gset_eq _ _ _ | refine (gset_ne _ _ (by first | assumption | omega | exact Ne.symm (by assumption))).trans ?_)) <;> assumption)); rfl; exact Nat.le_of_ble_eq_true rfl; (first | assumption | omega); rfl) | ((with_reducible apply w_gC); (first | assumption | exact gset_eq _ _ _ | ((repeat (first | exact gset_eq _ _ _ | refine (gset_ne _ _ (by first | assumption | omega | exact Ne.symm (by assumption))).trans ?_)) <;> assumption))) | ((with_reducible apply w_aln); (first | assumption | exact gset_eq _ _ _ | ((repeat (first | exact gset_eq _ _ _ | refine (gset_ne _ _ (by first | assumption | omega | exact Ne.symm (by assumption))).trans ?_)) <;> assumption))) | (with_reducible apply w_nmv) | (with_reducible apply w_tick)))
    unfold hB_X0_goesThrough_282
    (repeat (first | (with_reducible apply w_some) | ((with_reducible apply w_xI); (first | assumption | exact gset_eq _ _ _ | ((repeat (first | exact gset_eq _ _ _ | refine (gset_ne _ _ (by first | assumption | omega | exact Ne.symm (by assumption))).trans ?_)) <;> assumption)); rfl; rfl) | ((with_reducible apply w_xR); (first | assumption | exact gset_eq _ _ _ | ((repeat (first | exact gset_eq _ _ _ | refine (gset_ne _ _ (by first | assumption | omega | exact Ne.symm (by assumption))).trans ?_)) <;> assumption)); rfl; rfl) | ((with_reducible apply w_xR0); (first | assumption | exact gset_eq _ _ _ | ((repeat (first | exact gset_eq _ _ _ | refine (gset_ne _ _ (by first | assumption | omega | exact Ne.symm (by assumption))).trans ?_)) <;> assumption)); rfl; rfl) | ((with_reducible apply w_xF); (first | assumption | exact gset_eq _ _ _ | ((repeat (first | exact gset_eq _ _ _ | refine (gset_ne _ _ (by first | assumption | omega | exact Ne.symm (by assumption))).trans ?_)) <;> assumption)); rfl; exact Nat.le_of_ble_eq_true rfl; (first | assumption | omega); rfl) | ((with_reducible apply w_gC); (first | assumption | exact gset_eq _ _ _ | ((repeat (first | exact gset_eq _ _ _ | refine (gset_ne _ _ (by first | assumption | omega | exact Ne.symm (by assumption))).trans ?_)) <;> assumption))) | ((with_reducible apply w_aln); (first | assumption | exact gset_eq _ _ _ | ((repeat (first | exact gset_eq _ _ _ | refine (gset_ne _ _ (by first | assumption | omega | exact Ne.symm (by assumption))).trans ?_)) <;> assumption))) | (with_reducible apply w_nmv) | (with_reducible apply w_tick)))
    rw [hr] at K
    simp only [if_neg c] at K
    refine K _ (fun b w1 w2 => by simp only [gset_ne _ _ w1, gset_ne _ _ w2]) ?_ ?_
    · rw [gset_ne _ _ e1, gset_ne _ _ e1]; exact gset_eq _ _ _
    · exact gset_eq _ _ _
section X
variable {V : HEn} {G0 : Gh} {nx0 xo d0 da dm ia ro rd0 tx po to lo ld ch it : Nat} {ad : List Nat} {p : Pn} {mcx : Option Nat} {N : Nat → Prop} {kv vv : Nat → Option Nat} {ps : Nat → Nat} {mc : Int32} {es ks : Option Nat} {l : List (Nat × Nat)} {Z : Nat → Prop}
theorem go_loop (hV : 1200 ≤ V.2.2.2.2) (hC : Cst V G0) (hT : TMx V G0 to N kv vv ps mc es ks l) (hD : G0 d0 = some (.inr (1, [va_rf (some po), va_rf (some to)]))) (hP : G0 po = some (pcell lo ch p mcx)) (hR : RL V G0 lo ld ad p.1) (hp : PnOk p) (hl : ∀ y ∈ l, y.2 ≤ 4) (hll : l.length ≤ 40) (hb : V.1 ≤ nx0) (hxo : V.1 ≤ xo ∧ xo < nx0) (hro : V.1 ≤ ro ∧ ro < nx0) (hit : V.1 ≤ it ∧ it < nx0) (hxr : xo ≠ ro ∧ xo ≠ it ∧ ro ≠ it ∧ xo ≠ rd0 ∧ it ≠ rd0) (hrd0 : rd0 < nx0)
    (hZ : ∀ b, Z b → b < nx0 ∧ b ≠ xo ∧ b ≠ ro ∧ b ≠ it ∧ (b ≠ rd0 ∨ b < V.1)) (hZ1 : ∀ b, (b = d0 ∨ b = to ∨ b = po ∨ b = lo ∨ b = ld ∨ b ∈ ad ∨ N b ∨ es = some b ∨ ks = some b ∨ b < V.1) → Z b) :
    ∀ (rest : List (Nat × Nat)) (i m : Nat) (G : Gh) (nx rd : Nat) (rws : List Nat) (st : Nat × Nat × Nat), i + rest.length = l.length → l.drop i = rest → rest.length + 1 ≤ m → nx0 ≤ nx → (∀ b, Z b → G b = G0 b) → KIx G 13 it to mc N ps l.length i → G xo = some (xcell d0 da dm ia ro st tx) → StOk p st → AL V G ro rd (rws.map some) → rws.length = i → ((rd = rd0 ∨ nx0 ≤ rd) ∧ rd < nx) → (∀ a ∈ rws, (∃ fs, G a = some (.inr (6, fs))) ∧ nx0 ≤ a ∧ a < nx ∧ a ≠ rd) →
    wH (hL_X0_goesThrough_40 V xo m G nx (some it)) (fun _ G' c s => c ≤ 4 * rest.length ∧ s ≤ 165 * rest.length ∧ G' xo = some (xcell d0 da dm ia ro (gLast p st rest) tx) ∧ (∃ rd' nw, AL V G' ro rd' ((rws ++ nw).map some) ∧ ((rd' = rd ∨ nx ≤ rd') ∧ rd' < nx + c) ∧ nw.length = rest.length ∧ (∀ a ∈ nw, nx ≤ a ∧ a < nx + c ∧ a ≠ rd') ∧ ∀ j (h1 : j < nw.length) (h2 : j < (gRows p st rest).length), G' nw[j] = some (rcell (gRows p st rest)[j])) ∧ ∀ b, b < nx → b ≠ xo → b ≠ ro → b ≠ it → (b ≠ rd ∨ b < V.1) → G' b = G b) := by
  obtain ⟨hp1, hp2, hp3, hp4, hp5, hp6⟩ := id hp
  intro rest
  induction rest with
  | nil =>
    intro i m G nx rd rws st hi hd hm hnx hlow hK hX hst hA hrw hrd hrows
    obtain ⟨m, rfl⟩ := Nat.exists_eq_succ_of_ne_zero (show m ≠ 0 by omega)
    have hK0 := hK
    obtain ⟨nxt, lr, k1, -⟩ := hK
    rw [hL_X0_goesThrough_40]
    refine w_some (w_pos (gC_at k1) (w_call0 (hasNext_at (Or.inl rfl) hK0 hT.lt) ?_))
    refine w_pos (by rw [if_neg (by simp at hi; omega)]) (w_ret ⟨by simp, by simp, hX, ⟨rd, [], by simpa using hA, ⟨Or.inl rfl, by omega⟩, rfl, fun a ha => by simp at ha, fun j h1 => absurd h1 (Nat.not_lt_zero _)⟩, fun _ _ _ _ _ _ => rfl⟩)
  | cons y t ih =>
    intro i m G nx rd rws st hi hd hm hnx hlow hK hX hst hA hrw hrd hrows
    obtain ⟨m, rfl⟩ := Nat.exists_eq_succ_of_ne_zero (show m ≠ 0 by omega)
    have hK0 := hK
    obtain ⟨nxt, lr, k1, -⟩ := hK
    simp only [List.length_cons] at hi hm
    have hil : i < l.length := by omega
    have hdr := List.drop_eq_getElem_cons hil
    rw [hd] at hdr
    have hyi : l[i]? = some y := by rw [List.getElem?_eq_getElem hil, (List.cons.inj hdr).1]
    have hdt : l.drop (i + 1) = t := (List.cons.inj hdr).2.symm
    have hy4 : y.2 ≤ 4 := hl y (List.mem_of_getElem? hyi)
    have low : ∀ a, a < V.1 → G a = G0 a := fun a ha => hlow a (hZ1 a (by simp [ha]))
    have hTG : TMx V G to N kv vv ps mc es ks l := hT.keep (fun a ha => hlow a (hZ1 a (by rcases ha with w | w | w | w <;> simp [w]))) low
    have toN : to < nx0 ∧ to ≠ xo ∧ to ≠ ro ∧ to ≠ it := by have := hZ to (hZ1 to (by simp)); omega
    have d0N : d0 < nx0 ∧ d0 ≠ xo ∧ d0 ≠ ro ∧ d0 ≠ it := by have := hZ d0 (hZ1 d0 (by simp)); omega
    have poN : po < nx0 ∧ po ≠ xo ∧ po ≠ ro ∧ po ≠ it := by have := hZ po (hZ1 po (by simp)); omega
    have itN : ¬ N it := fun w => by have := hZ it (hZ1 it (by simp [w])); omega
    have hval : y.1 < 128 ∧ y.2 < 128 := TM.val ⟨_, _, _, _, _, _, _, hT, fun a _ => trivial⟩ (F := fun _ => True) hyi
    rw [hL_X0_goesThrough_40]
    refine w_some (w_pos (gC_at k1) (w_call0 (hasNext_at (Or.inl rfl) hK0 hT.lt) ?_))
    refine w_neg (by rw [if_pos hil]; decide) (w_pos (gC_at k1) ?_)
    refine w_call (keyNext_at (by omega) hTG hK0 hyi hit.1 (Ne.symm toN.2.2.2) itN) ?_
    rintro r G1 c1 s1 ⟨rfl, rfl, ⟨a1, rfl, a2, a3⟩, t2, t3⟩
    refine w_pos (gok_at a3 (by simp)) (w_some (w_pos (gC_at a3) (w_call0 (intValue_at a3) (w_tick ?_))))
    have z2 : ∀ b, b < nx → b ≠ it → gset G1 nx (.inr (6, [.int 0, .int 0, .int 0, .int 0, .int 0, .int 0, .int 0])) b = G b := fun b b1 b2 => by rw [gset_ne _ _ (by omega)]; exact t3 b b2
    have zn : gset G1 nx (.inr (6, [.int 0, .int 0, .int 0, .int 0, .int 0, .int 0, .int 0])) nx = some (.inr (6, [.int 0, .int 0, .int 0, .int 0, .int 0, .int 0, .int 0])) := gset_eq _ _ _
    simp only [Nat.add_zero]
    generalize hG2 : gset G1 nx (.inr (6, [.int 0, .int 0, .int 0, .int 0, .int 0, .int 0, .int 0])) = G2 at z2 zn ⊢
    have hK2 : KIx G2 13 it to mc N ps l.length (i + 1) := by
      obtain ⟨n2, l2, q1, q2⟩ := t2
      exact ⟨n2, l2, by rw [← hG2, gset_ne _ _ (by omega)]; exact q1, q2⟩
    have zz2 : ∀ b, Z b → G2 b = G0 b := fun b hb' => by have := hZ b hb'; rw [z2 b (by omega) (by omega)]; exact hlow b hb'
    have hX2 : G2 xo = some (xcell d0 da dm ia ro st tx) := by rw [z2 xo (by omega) hxr.2.1]; exact hX
    have hD2 : G2 d0 = some (.inr (1, [va_rf (some po), va_rf (some to)])) := (zz2 _ (hZ1 _ (by simp))).trans hD
    have low2 : ∀ a, a < V.1 → G2 a = G0 a := fun a ha => zz2 a (hZ1 a (by simp [ha]))
    have hT2 : TMx V G2 to N kv vv ps mc es ks l := hT.keep (fun a ha => zz2 a (hZ1 a (by rcases ha with w | w | w | w <;> simp [w]))) low2
    have hTM2 : TM V G2 to (fun _ => True) l := ⟨_, _, _, _, _, _, _, hT2, fun _ _ => trivial⟩
    refine w_xR hX2 rfl rfl (w_some (w_xR hD2 rfl rfl ?_))
    obtain ⟨rv, f1, f2, rfl, f3, f4⟩ := valueOf_at (nx := nx + 0 + 0 + 0 + 1) (hC.keep low2) hval.1
    obtain ⟨rg, g1, g2, rfl, g3, g4⟩ := hTM2.get (nx := nx + 0 + 0 + 0 + 1 + 0) (by omega) ⟨f2, rfl, f3, f4⟩ hval.1 hyi
    refine w_call0 f1 (w_some (w_pos hTM2.gC (w_call0 g1 (w_pos (gok_at g4 (by simp)) (w_some (w_pos (gC_at g4) (w_call0 (intValue_at g4) ?_)))))))
    unfold hB_X0_goesThrough_87 hF_X7_init
    refine w_some (w_cB ?_)
    refine w_xF (fs' := [.int (nI y.1), .int 0, .int 0, .int 0, .int 0, .int 0, .int 0]) zn rfl (Nat.le_of_ble_eq_true rfl) (by omega) rfl (w_xF (fs' := [.int (nI y.1), .int (nI y.2), .int 0, .int 0, .int 0, .int 0, .int 0]) (gset_eq _ _ _) rfl (Nat.le_of_ble_eq_true rfl) (by omega) rfl (w_ret ?_))
    generalize hG3 : gset (gset G2 nx (.inr (6, [.int (nI y.1), .int 0, .int 0, .int 0, .int 0, .int 0, .int 0]))) nx (.inr (6, [.int (nI y.1), .int (nI y.2), .int 0, .int 0, .int 0, .int 0, .int 0])) = G3
    have k3 : ∀ b, b ≠ nx → G3 b = G2 b := fun b hb' => by rw [← hG3, gset_ne _ _ hb', gset_ne _ _ hb']
    have hN3 : G3 nx = some (.inr (6, [.int (nI y.1), .int (nI y.2), .int 0, .int 0, .int 0, .int 0, .int 0])) := by rw [← hG3]; exact gset_eq _ _ _
    have hX3 : G3 xo = some (xcell d0 da dm ia ro st tx) := by rw [k3 xo (by omega)]; exact hX2
    have hD3 : G3 d0 = some (.inr (1, [va_rf (some po), va_rf (some to)])) := by rw [k3 d0 (by omega)]; exact hD2
    have zz3 : ∀ b, Z b → G3 b = G0 b := fun b hb' => by have := hZ b hb'; rw [k3 b (by omega)]; exact zz2 b hb'
    have hP3 : G3 po = some (pcell lo ch p mcx) := (zz3 _ (hZ1 _ (by simp))).trans hP
    have hR3 : RL V G3 lo ld ad p.1 := hR.keep (zz3 _ (hZ1 _ (by simp))) (zz3 _ (hZ1 _ (by simp))) (fun a ha => zz3 _ (hZ1 _ (by simp [ha])))
    have below : lo < nx0 ∧ ld < nx0 ∧ ∀ a ∈ ad, a < nx0 := ⟨(hZ _ (hZ1 lo (by simp))).1, (hZ _ (hZ1 ld (by simp))).1, fun a ha => (hZ _ (hZ1 a (by simp [ha]))).1⟩
    obtain ⟨plc1, plc2, plc3, plc4, plc5⟩ := plcs_ok hp1.2.2
    have hst64 := plc2 _ hst.1
    refine w_xR hX3 rfl rfl (w_some (w_xR hD3 rfl rfl (w_xI hX3 rfl rfl (w_some (w_xI hN3 rfl rfl (w_some (w_pos (gC_at hP3) ?_)))))))
    refine w_call (met_at (by omega) hst64 (by omega) hP3 hR3 ⟨by omega, by omega, fun a ha => by have := below.2.2 a ha; omega⟩ (by omega)) ?_
    rintro q4 G4 c4 s4 ⟨rfl, rfl, rfl, k4⟩
    have hmlt := pM_lt p.1 st.1 y.2
    have hm3 : 2 ^ p.1.length ≤ 2 ^ 3 := Nat.pow_le_pow_right (by decide) hp1.2.1
    refine w_xF (fs' := [.int (nI y.1), .int (nI y.2), .int (nI (pM p.1 st.1 y.2)), .int 0, .int 0, .int 0, .int 0]) (by rw [k4 nx (by omega)]; exact hN3) rfl (Nat.le_of_ble_eq_true rfl) (by omega) rfl ?_
    generalize hG5 : gset G4 nx (.inr (6, [.int (nI y.1), .int (nI y.2), .int (nI (pM p.1 st.1 y.2)), .int 0, .int 0, .int 0, .int 0])) = G5
    have k5 : ∀ b, b ≠ nx → b ≠ nx + 1 → G5 b = G2 b := fun b b1 b2 => by rw [← hG5, gset_ne _ _ b1, k4 b (by omega), k3 b b1]
    have hN5 : G5 nx = some (.inr (6, [.int (nI y.1), .int (nI y.2), .int (nI (pM p.1 st.1 y.2)), .int 0, .int 0, .int 0, .int 0])) := by rw [← hG5]; exact gset_eq _ _ _
    have hX5 : G5 xo = some (xcell d0 da dm ia ro st tx) := by rw [k5 xo (by omega) (by omega)]; exact hX2
    have hD5 : G5 d0 = some (.inr (1, [va_rf (some po), va_rf (some to)])) := by rw [k5 d0 (by omega) (by omega)]; exact hD2
    have zz5 : ∀ b, Z b → G5 b = G0 b := fun b hb' => by have := hZ b hb'; rw [k5 b (by omega) (by omega)]; exact zz2 b hb'
    have hP5 : G5 po = some (pcell lo ch p mcx) := (zz5 _ (hZ1 _ (by simp))).trans hP
    -- the rest of a row, its bits being known
    have fin : ∀ (G6 : Gh) (nx6 : Nat) (q cc ss : Nat), q = (if pM p.1 st.1 y.2 = 0 then pB p.1 st.1 y.2 else 0) → nx6 = nx + cc → 1 ≤ cc → cc ≤ 3 → ss ≤ 15 → (∀ b, b < nx → G6 b = G2 b) → G6 nx = some (.inr (6, [.int (nI y.1), .int (nI y.2), .int (nI (pM p.1 st.1 y.2)), .int 0, .int 0, .int 0, .int 0])) →
        wH (hB_X0_goesThrough_143 V xo (hL_X0_goesThrough_40 V xo m) G6 nx6 (some xo) (nI q) (some it) (some nx)) (fun r G' c s => cc + c ≤ 4 * (y :: t).length ∧ ss + s ≤ 165 * (y :: t).length ∧ G' xo = some (xcell d0 da dm ia ro (gLast p st (y :: t)) tx) ∧ (∃ rd' nw, AL V G' ro rd' ((rws ++ nw).map some) ∧ ((rd' = rd ∨ nx ≤ rd') ∧ rd' < nx + (cc + c)) ∧ nw.length = (y :: t).length ∧ (∀ a ∈ nw, nx ≤ a ∧ a < nx + (cc + c) ∧ a ≠ rd') ∧ ∀ j (h1 : j < nw.length) (h2 : j < (gRows p st (y :: t)).length), G' nw[j] = some (rcell (gRows p st (y :: t))[j])) ∧ ∀ b, b < nx → b ≠ xo → b ≠ ro → b ≠ it → (b ≠ rd ∨ b < V.1) → G' b = G b) := by
      intro G6 nx6 q cc ss hq hn6 hcc1 hcc hss k6 hN6
      have zz6 : ∀ b, Z b → G6 b = G0 b := fun b hb' => by have := hZ b hb'; rw [k6 b (by omega)]; exact zz2 b hb'
      have hX6 : G6 xo = some (xcell d0 da dm ia ro st tx) := by rw [k6 xo (by omega)]; exact hX2
      have hD6 : G6 d0 = some (.inr (1, [va_rf (some po), va_rf (some to)])) := by rw [k6 d0 (by omega)]; exact hD2
      have hP6 : G6 po = some (pcell lo ch p mcx) := (zz6 _ (hZ1 _ (by simp))).trans hP
      have b1 : V.1 ≤ nx := by omega
      have b2 : V.1 ≤ xo := hxo.1
      have e1 : xo ≠ nx := by omega
      have e2 : d0 ≠ nx := by omega
      have e3 : po ≠ nx := by omega
      have e4 := d0N.2.1
      have e5 := poN.2.1
      have hu9 := hst.2.1
      have hd9 := hst.2.2
      have eu : (gRow p st y).2.2.2.1 = q := hq.symm
      -- behind the row's last field
      have ad : ∀ (G7 : Gh), (∀ b, b ≠ xo → b ≠ nx → G7 b = G6 b) → G7 xo = some (xcell d0 da dm ia ro (rSt (gRow p st y)) tx) → G7 nx = some (rcell (gRow p st y)) → wH (cB (hF_J2_add V G7 nx6 ro (some nx)) fun y20 G21 c22 => hL_X0_goesThrough_40 V xo m G21 (nx6 + c22) (some it)) (fun r G' c s => cc + c ≤ 4 * (y :: t).length ∧ ss + s ≤ 165 * (y :: t).length ∧ G' xo = some (xcell d0 da dm ia ro (gLast p st (y :: t)) tx) ∧ (∃ rd' nw, AL V G' ro rd' ((rws ++ nw).map some) ∧ ((rd' = rd ∨ nx ≤ rd') ∧ rd' < nx + (cc + c)) ∧ nw.length = (y :: t).length ∧ (∀ a ∈ nw, nx ≤ a ∧ a < nx + (cc + c) ∧ a ≠ rd') ∧ ∀ j (h1 : j < nw.length) (h2 : j < (gRows p st (y :: t)).length), G' nw[j] = some (rcell (gRows p st (y :: t))[j])) ∧ ∀ b, b < nx → b ≠ xo → b ≠ ro → b ≠ it → (b ≠ rd ∨ b < V.1) → G' b = G b) := by
        intro G7 k7 hX7 hN7
        have k7' : ∀ b, b < nx → b ≠ xo → b ≠ it → G7 b = G b := fun b c1 c2 c3 => by rw [k7 b c2 (by omega), k6 b c1, z2 b c1 c3]
        have rdx : rd ≠ xo ∧ rd ≠ it ∧ rd ≠ nx := by
          rcases hrd.1 with w | w
          · rw [w]; exact ⟨Ne.symm hxr.2.2.2.1, Ne.symm hxr.2.2.2.2, by omega⟩
          · exact ⟨by omega, by omega, by omega⟩
        have hA7 : AL V G7 ro rd (rws.map some) := hA.keep (k7' ro (by omega) (Ne.symm hxr.1) hxr.2.2.1) (k7' rd hrd.2 rdx.1 rdx.2.1)
        refine w_call (al_add (x := some nx) hA7 (by simp; omega) ⟨by omega, by omega⟩ (by omega) trivial (fun z hz => ?_) (gokA_at hN7 (by simp [okL]) (by decide)) (fun z hz a ha => ?_)) ?_
        · obtain ⟨a, ha, rfl⟩ := List.mem_map.mp hz
          obtain ⟨⟨fs, w1⟩, w2, w3, w4⟩ := hrows a ha
          exact gokA_at (by rw [k7' a w3 (by omega) (by omega)]; exact w1) (by simp [okL]) (by decide)
        · rcases hz with w | w
          · obtain ⟨a', ha', rfl⟩ := List.mem_map.mp w
            obtain ⟨w1, w2, w3, w4⟩ := hrows a' ha'
            cases ha
            exact ⟨by omega, by omega, w4⟩
          · rw [w] at ha
            cases ha
            exact ⟨by omega, by omega, Ne.symm rdx.2.2⟩
        rintro - G8 c8 s8 ⟨-, x2, x3, ⟨rd8, x4, x5⟩, x6⟩
        have k8 : ∀ b, b < nx → b ≠ xo → b ≠ ro → b ≠ it → (b ≠ rd ∨ b < V.1) → G8 b = G b := fun b c1 c2 c3 c4 c5 => by rw [x6 b c3 c5 (by omega)]; exact k7' b c1 c2 c4
        have hmap : (rws ++ [nx]).map some = rws.map some ++ [some nx] := by simp
        have hN8 : G8 nx = some (rcell (gRow p st y)) := by rw [x6 nx (by omega) (Or.inl (Ne.symm rdx.2.2)) (by omega)]; exact hN7
        refine w_mono (ih (i + 1) m G8 (nx6 + c8) rd8 (rws ++ [nx]) (rSt (gRow p st y)) (by omega) hdt (by omega) (by omega) (fun b hb' => ?_) ?_ ?_ (gRow_ok hp hst hy4).1 (by rw [hmap]; exact x4) (by simp; omega) ⟨by omega, by omega⟩ (fun a ha => ?_)) ?_
        · have hz := hZ b hb'
          rw [k8 b (by omega) hz.2.1 hz.2.2.1 hz.2.2.2.1 (by rcases hrd.1 with w | w; rw [w]; exact hz.2.2.2.2; omega)]
          exact hlow b hb'
        · obtain ⟨n2, l2, q1, q2⟩ := hK2
          refine ⟨n2, l2, ?_, q2⟩
          rw [x6 it (Ne.symm hxr.2.2.1) (Or.inl (Ne.symm rdx.2.1)) (by omega), k7 it (Ne.symm hxr.2.1) (by omega), k6 it (by omega)]
          exact q1
        · rw [x6 xo hxr.1 (Or.inl (Ne.symm rdx.1)) (by omega)]; exact hX7
        · rcases List.mem_append.mp ha with w | w
          · obtain ⟨⟨fs, w1⟩, w2, w3, w4⟩ := hrows a w
            exact ⟨⟨fs, by rw [k8 a w3 (by omega) (by omega) (by omega) (Or.inl w4)]; exact w1⟩, w2, by omega, by omega⟩
          · rw [List.mem_singleton.mp w]
            exact ⟨⟨_, hN8⟩, by omega, by omega, by omega⟩
        · rintro - G9 c9 s9 ⟨v1, v2, v3, ⟨rd9, nw, v4, v5, v6, v7, v8⟩, v9⟩
          have el : (y :: t).length = t.length + 1 := rfl
          refine ⟨by omega, by omega, v3, ⟨rd9, nx :: nw, ?_, ⟨by omega, by omega⟩, by simp [v6], fun a ha => ?_, fun j h1 h2 => ?_⟩, fun b c1 c2 c3 c4 c5 => ?_⟩
          · rw [List.append_assoc] at v4
            exact v4
          · rcases List.mem_cons.mp ha with w | w
            · have := v5.1
              exact ⟨by omega, by omega, by omega⟩
            · have := v7 a w
              exact ⟨by omega, by omega, this.2.2⟩
          · cases j with
            | zero =>
              show G9 nx = some (rcell (gRow p st y))
              rw [v9 nx (by omega) (by omega) (by omega) (by omega) (by omega)]
              exact hN8
            | succ j =>
              have := v8 j (by simp at h1; omega) (by rw [gRows] at h2; simp at h2; omega)
              simpa [gRows] using this
          · rw [v9 b (by omega) c2 c3 c4 (by omega)]
            exact k8 b c1 c2 c3 c4 c5
      obtain ⟨fro, hro6⟩ : ∃ fs, G6 ro = some (.inr (8, fs)) := by
        obtain ⟨ml, nn, ff, w, -⟩ := hA
        exact ⟨_, by rw [k6 ro (by omega), z2 ro (by omega) hxr.2.2.1]; exact w⟩
      exact go_143 (p := p) hX6 hD6 hP6 hN6 hro6 b1 b2 e1 e2 e3 e4 e5 (Ne.symm hxr.1) (by omega) hu9 hd9 hy4 hp4 hp6 hq ad
    by_cases c0 : pM p.1 st.1 y.2 = 0
    · refine w_xI hN5 rfl rfl (w_pos ((i_zero (by omega)).mpr c0) ?_)
      refine w_xR hX5 rfl rfl (w_some (w_xR hD5 rfl rfl (w_xI hX5 rfl rfl (w_xI hN5 rfl rfl (w_some (w_pos (gC_at hP5) ?_))))))
      have hR5 : RL V G5 lo ld ad p.1 := hR.keep (zz5 _ (hZ1 _ (by simp))) (zz5 _ (hZ1 _ (by simp))) (fun a ha => zz5 _ (hZ1 _ (by simp [ha])))
      refine w_call (beh_at (lp := 0) (by omega) hst64 (by omega) hP5 hR5 ⟨by omega, by omega, fun a ha => by have := below.2.2 a ha; omega⟩ (by omega)) ?_
      rintro q6 G6 c6 s6 ⟨rfl, rfl, rfl, k6⟩
      refine w_mono (fin G6 _ (pB p.1 st.1 y.2) 3 15 (by rw [if_pos c0]) rfl (by omega) (by omega) (by omega) (fun b hb' => by rw [k6 b (by omega), k5 b (by omega) (by omega)]) (by rw [k6 nx (by omega)]; exact hN5)) ?_
      intro r G' c s hq
      rw [show 0 + (1 + (0 + (1 + (1 + c)))) = 3 + c by omega, show 0 + (7 + (0 + (4 + (4 + s)))) = 15 + s by omega]
      exact hq
    · refine w_xI hN5 rfl rfl (w_neg (fun z => c0 ((i_zero (by omega)).mp z)) ?_)
      refine w_mono (fin G5 _ 0 2 11 (by rw [if_neg c0]) rfl (by omega) (by omega) (by omega) (fun b hb' => k5 b (by omega) (by omega)) hN5) ?_
      intro r G' c s hq
      rw [show 0 + (1 + (0 + (1 + c))) = 2 + c by omega, show 0 + (7 + (0 + (4 + s))) = 11 + s by omega]
      exact hq
end X

/-! PURE FB: the model reads numbers, sums, rules -/
theorem n10 : ¬ (1 : Int32) = 0 := by decide
theorem tT0 : True ∨ (0 : Int32) = 1 := Or.inl trivial
theorem tT1 : (1 : Int32) = 0 ∨ True := Or.inr trivial
theorem t00 : (0 : Int32) = 0 := rfl
theorem t01 : (0 : Int32) = 0 ∨ (0 : Int32) = 1 := Or.inl rfl
theorem t11 : (1 : Int32) = 0 ∨ (1 : Int32) = 1 := Or.inr rfl
theorem bnf {b : Bool} (h : b = true) : ¬ b = false := by rw [h]; decide
theorem bff {b : Bool} (h : ¬ b = true) : b = false := by simpa using h
theorem mS1 : ∀ s, s < 7 → (nI (mS s) = 1 ↔ s = 1) := by decide
/-- what is read, in the model -/
def MRd (r : Nat → Int32) (p : Pn) : Prop := r 0 = nI p.1.length ∧ (∀ i, i < p.1.length → r (1 + 3 * i) = nI (p.1.getD i (0, 0, 0)).1 ∧ r (2 + 3 * i) = nI (p.1.getD i (0, 0, 0)).2.1 ∧ r (3 + 3 * i) = nI (p.1.getD i (0, 0, 0)).2.2) ∧ (∀ i, i < 5 → r (10 + i) = nI (p.2.1.getD i 0)) ∧ r 15 = nI p.2.2.1 ∧ r 16 = nI p.2.2.2
section X
variable {N : Nat} {x : Nat → Int32} {l : List Nat}
theorem in_m {v lo hi : Nat} (hv : v < 2 ^ 31) (hl : lo < 2 ^ 31) (hh : hi < 2 ^ 31) : mF_in N (nI v) (nI lo) (nI hi) = some (if lo ≤ v ∧ v ≤ hi then 1 else 0) := by
  unfold mF_in mB_in_14 mB_in_15
  by_cases c1 : v < lo
  · rw [if_pos (nI_lt c1 hl), if_pos (by decide), if_neg (fun z => by omega)]
  · rw [if_neg (nI_nlt (by omega) hv)]
    by_cases c2 : hi < v
    · rw [if_pos (nI_lt c2 hv), if_pos (by decide), if_neg (fun z => by omega)]
    · rw [if_neg (nI_nlt (by omega) hh), if_pos (by decide), if_pos (by omega)]
theorem scanN_m (hN : 600 ≤ N) (h : MTx x (nI l.length) l) (h256 : ∀ c ∈ l, c < 256) {a : Nat} (ha : a ≤ l.length) {lo hi : Nat} (hlo : lo < 1000) (hhi : hi < 1000) {ta ts tv : Int32} : ∃ tv', mF_scanNumber N x (nI l.length) (nI lo) (nI hi) (nI a) ta ts tv = some ((if nuI (lexT l a) lo hi then 1 else 0), nI (lexT l a).2.2.2, nI (lexT l a).1, nI (mS (lexT l a).2.1), tv') ∧ (nuI (lexT l a) lo hi = true → tv' = nI (lexT l a).2.2.1) := by
  obtain ⟨tv', e, hv⟩ := scan_m hN h h256 ha (ta := ta) (ts := ts) (tv := tv)
  refine ⟨tv', ?_, fun hn => hv (of_decide_eq_true hn).1⟩
  unfold mF_scanNumber mB_scanNumber_28 mB_scanNumber_29
  rw [e]
  simp only [Option.bind_some]
  have hs := lexT_sort l a
  have hl := lexT_le ha
  by_cases c : (lexT l a).2.1 = 1
  · rw [if_pos ((mS1 _ (by omega)).mpr c), hv c, in_m (by omega) (by omega) (by omega)]
    simp only [Option.bind_some]
    by_cases d : lo ≤ (lexT l a).2.2.1 ∧ (lexT l a).2.2.1 ≤ hi
    · rw [if_pos d, if_neg n10, if_pos tT1, if_pos (show nuI (lexT l a) lo hi = true from decide_eq_true ⟨c, d⟩)]
    · rw [if_neg d, if_pos t00, if_pos tT0, if_neg (show ¬ nuI (lexT l a) lo hi = true from fun z => d (of_decide_eq_true z).2)]
  · rw [if_neg (fun z => c ((mS1 _ (by omega)).mp z)), if_pos tT0, if_neg (show ¬ nuI (lexT l a) lo hi = true from fun z => c (of_decide_eq_true z).1)]
theorem width_m (hN : 600 ≤ N) {r : Nat → Int32} {p : Pn} (hr : MRd r p) (hok : RsOk p.1) : mF_width N r = some (nI (bks p.1)) := by
  obtain ⟨r0, r1, -⟩ := hr
  obtain ⟨o1, o2, o3⟩ := hok
  have loop : ∀ (m k f acc : Nat), k + m = p.1.length → m < f → mL_width_4 N r f (nI acc) (nI k) = some (nI (acc + bks (p.1.drop k))) := by
    intro m
    induction m with
    | zero =>
      intro k f acc hk hf
      obtain ⟨f, rfl⟩ : ∃ z, f = z + 1 := ⟨f - 1, by omega⟩
      unfold mL_width_4
      rw [r0, if_pos (nI_le (by omega) (by omega)), List.drop_eq_nil_of_le (by omega)]
      rfl
    | succ m ih =>
      intro k f acc hk hf
      obtain ⟨f, rfl⟩ : ∃ z, f = z + 1 := ⟨f - 1, by omega⟩
      have hkl : k < p.1.length := by omega
      unfold mL_width_4
      rw [r0, if_neg (nI_ge (by omega) (by omega)), show ((1 : Int32) + 3 * nI k) + 1 = nI (2 + 3 * k) from by
        rw [show (1 : Int32) = nI 1 from rfl, show (3 : Int32) = nI 3 from rfl, nI_mul, nI_add, nI_add]; congr 1; omega, gd_nI (by omega) (by omega)]
      simp only [Option.bind_some]
      have hg : p.1.getD k (0, 0, 0) = p.1[k] := by simp [hkl]
      have hro := o1 _ (List.getElem_mem hkl)
      rw [(r1 k hkl).2.1, hg, show (1 : Int32) = nI 1 from rfl, nI_sub (by unfold RuOk at hro; omega), nI_add, nI_add, ih (k + 1) f _ (by omega) (by omega), List.drop_eq_getElem_cons hkl]
      show some (nI (acc + (p.1[k].2.1 - 1) + bks (p.1.drop (k + 1)))) = some (nI (acc + ((p.1[k].2.1 - 1) + bks (p.1.drop (k + 1)))))
      rw [Nat.add_assoc]
  have := loop p.1.length 0 N 0 (by omega) (by omega)
  unfold mF_width
  rw [show (0 : Int32) = nI 0 from rfl, this, List.drop_zero, Nat.zero_add]
theorem readSums_m (hN : 600 ≤ N) (h : MTx x (nI l.length) l) (h256 : ∀ c ∈ l, c < 256) {t : Tk} (ht : t.2.2.2 ≤ l.length) {r : Nat → Int32} {p : Pn} (hr : MRd r p) (hl3 : p.1.length ≤ 3) {ta ts tv : Int32} : match pSums l p t with
    | .inl b => b ≤ l.length ∧ ∃ r' a' s' v' c', mF_readSums N x (nI l.length) r (nI t.2.2.2) ta ts tv 0 = some (0, r', a', nI b, s', v', c')
    | .inr (p', t3) => ∃ r' v', mF_readSums N x (nI l.length) r (nI t.2.2.2) ta ts tv 0 = some (1, r', nI t3.2.2.2, nI t3.1, nI (mS t3.2.1), v', 1) ∧ MRd r' p' ∧ t3.2.2.2 ≤ l.length := by
  obtain ⟨r0, r1, r2, r3, r4⟩ := hr
  obtain ⟨v1, e1, w1⟩ := scanN_m hN h h256 ht (lo := 0) (hi := 2) (by omega) (by omega) (ta := ta) (ts := ts) (tv := tv)
  have b1 := lexT_le ht
  unfold pSums mF_readSums mB_readSums_16
  rw [if_pos rfl, show mF_scanNumber N x (nI l.length) 0 2 (nI t.2.2.2) ta ts tv = _ from e1]
  generalize lexT l t.2.2.2 = t1 at *
  simp only [Option.bind_some]
  by_cases c1 : nuI t1 0 2 = true
  · obtain ⟨v2, e2, w2⟩ := scanN_m hN h h256 b1.1 (lo := 1) (hi := 9) (by omega) (by omega) (ta := nI t1.1) (ts := nI (mS t1.2.1)) (tv := v1)
    have b2 := lexT_le b1.1
    rw [if_pos c1, if_neg n10, if_neg (bnf c1), show mF_scanNumber N x (nI l.length) 1 9 (nI t1.2.2.2) (nI t1.1) (nI (mS t1.2.1)) v1 = _ from e2]
    generalize lexT l t1.2.2.2 = t2 at *
    simp only [Option.bind_some]
    by_cases c2 : nuI t2 1 9 = true
    · rw [if_pos c2, if_neg n10, if_neg (bnf c2)]
      refine ⟨_, _, rfl, ⟨?_, fun i hi => ?_, fun i hi => ?_, ?_, ?_⟩, b2.1⟩
      · simp only [upd]; rw [if_neg (by omega), if_neg (by omega)]; exact r0
      · have hi' : i < p.1.length := hi
        simp only [upd]; rw [if_neg (by omega), if_neg (by omega), if_neg (by omega), if_neg (by omega), if_neg (by omega), if_neg (by omega)]; exact r1 i hi
      · simp only [upd]; rw [if_neg (by omega), if_neg (by omega)]; exact r2 i hi
      · simp only [upd]; rw [if_neg (by omega), if_pos trivial]; exact w1 c1
      · simp only [upd]; rw [if_pos trivial]; exact w2 c2
    · rw [if_neg c2, if_pos t00, if_pos (bff c2)]
      exact ⟨b2.2.1, _, _, _, _, _, rfl⟩
  · rw [if_neg c1, if_pos t00, if_pos (bff c1)]
    exact ⟨b1.2.1, _, _, _, _, _, rfl⟩
theorem readRule_m (hN : 600 ≤ N) (h : MTx x (nI l.length) l) (h256 : ∀ c ∈ l, c < 256) {t : Tk} (ht : t.2.2.2 ≤ l.length) (ht1 : t.1 ≤ l.length) {r : Nat → Int32} {p : Pn} (hr : MRd r p) (hok : RsOk p.1) {ts tv : Int32} : match pRule l p.1 t with
    | .inl b => b ≤ l.length ∧ ∃ r' a' s' v', mF_readRule N x (nI l.length) r (nI t.2.2.2) (nI t.1) ts tv = some (0, r', a', nI b, s', v')
    | .inr (rs, t3) => ∃ r' v', mF_readRule N x (nI l.length) r (nI t.2.2.2) (nI t.1) ts tv = some (1, r', nI t3.2.2.2, nI t3.1, nI (mS t3.2.1), v') ∧ MRd r' (rs, p.2) ∧ t3.2.2.2 ≤ l.length := by
  have hw := width_m hN hr hok
  obtain ⟨r0, r1, r2, r3, r4⟩ := hr
  have hk3 := hok.2.1
  have hb6 := hok.2.2
  unfold pRule mF_readRule mB_readRule_19
  rw [r0]
  by_cases c0 : p.1.length = 3
  · rw [if_pos c0, if_pos (by rw [c0]; rfl)]
    exact ⟨ht1, _, _, _, _, rfl⟩
  rw [if_neg c0, if_neg (show ¬ nI p.1.length = (3 : Int32) from fun z => c0 ((nI_eq (b := 3) (by omega) (by omega)).mp z))]
  obtain ⟨v1, e1, w1⟩ := scanN_m hN h h256 ht (lo := 1) (hi := 4) (by omega) (by omega) (ta := nI t.1) (ts := ts) (tv := tv)
  have b1 := lexT_le ht
  rw [show mF_scanNumber N x (nI l.length) 1 4 (nI t.2.2.2) (nI t.1) ts tv = _ from e1]
  simp only
  generalize lexT l t.2.2.2 = t1 at *
  simp only [Option.bind_some]
  by_cases c1 : nuI t1 1 4 = true
  · have k1 := (of_decide_eq_true c1).2
    rw [if_pos c1, if_neg n10, if_neg (bnf c1), hw]
    simp only [Option.bind_some]
    have hv1 := w1 c1
    have main : ∀ u, u = min 4 (7 - bks p.1) → (match (if (nuI (lexT l t1.2.2.2) t1.2.2.1 4 && decide (bks p.1 + (lexT l t1.2.2.2).2.2.1 - 1 ≤ 6)) = false then Sum.inl (lexT l t1.2.2.2).1 else if nuI (lexT l (lexT l t1.2.2.2).2.2.2) 1 31 = false then .inl (lexT l (lexT l t1.2.2.2).2.2.2).1 else .inr (p.1 ++ [(t1.2.2.1, (lexT l t1.2.2.2).2.2.1, (lexT l (lexT l t1.2.2.2).2.2.2).2.2.1)], lexT l (lexT l t1.2.2.2).2.2.2) : Nat ⊕ (List Ru × Tk)) with
      | .inl b => b ≤ l.length ∧ ∃ r' a' s' v', mB_readRule_46 N x (nI l.length) v1 (nI u) v1 r (nI t1.2.2.2) (nI t1.1) (nI (mS t1.2.1)) v1 = some (0, r', a', nI b, s', v')
      | .inr (rs, t3) => ∃ r' v', mB_readRule_46 N x (nI l.length) v1 (nI u) v1 r (nI t1.2.2.2) (nI t1.1) (nI (mS t1.2.1)) v1 = some (1, r', nI t3.2.2.2, nI t3.1, nI (mS t3.2.1), v') ∧ MRd r' (rs, p.2) ∧ t3.2.2.2 ≤ l.length) := by
      intro u hu
      obtain ⟨v2, e2, w2⟩ := scanN_m hN h h256 b1.1 (lo := t1.2.2.1) (hi := u) (by omega) (by omega) (ta := nI t1.1) (ts := nI (mS t1.2.1)) (tv := v1)
      have b2 := lexT_le b1.1
      unfold mB_readRule_46
      rw [hv1] at e2 ⊢
      rw [e2]
      generalize lexT l t1.2.2.2 = t2 at *
      simp only [Option.bind_some]
      have heq : (nuI t2 t1.2.2.1 4 && decide (bks p.1 + t2.2.2.1 - 1 ≤ 6)) = nuI t2 t1.2.2.1 u := by
        rw [Bool.eq_iff_iff]
        simp only [nuI, Bool.and_eq_true, decide_eq_true_eq]
        omega
      rw [heq]
      by_cases c2 : nuI t2 t1.2.2.1 u = true
      · have k2 := (of_decide_eq_true c2).2
        rw [if_pos c2, if_neg n10, if_neg (bnf c2)]
        obtain ⟨v3, e3, w3⟩ := scanN_m hN h h256 b2.1 (lo := 1) (hi := 31) (by omega) (by omega) (ta := nI t2.1) (ts := nI (mS t2.2.1)) (tv := v2)
        have b3 := lexT_le b2.1
        rw [show mF_scanNumber N x (nI l.length) 1 31 (nI t2.2.2.2) (nI t2.1) (nI (mS t2.2.1)) v2 = _ from e3]
        generalize lexT l t2.2.2.2 = t3 at *
        simp only [Option.bind_some]
        by_cases c3 : nuI t3 1 31 = true
        · rw [if_pos c3, if_neg n10, if_neg (bnf c3), r0]
          rw [show ((1 : Int32) + 3 * nI p.1.length) = nI (1 + 3 * p.1.length) from by
            rw [show (1 : Int32) = nI 1 from rfl, show (3 : Int32) = nI 3 from rfl, nI_mul, nI_add], show nI (1 + 3 * p.1.length) + 1 = nI (2 + 3 * p.1.length) from by rw [nI_1]; congr 1; omega, show nI (1 + 3 * p.1.length) + 2 = nI (3 + 3 * p.1.length) from by rw [show (2 : Int32) = nI 2 from rfl, nI_add]; congr 1; omega, gd_nI (by omega) (by omega), gd_nI (by omega) (by omega), gd_nI (by omega) (by omega)]
          simp only [Option.bind_some]
          refine ⟨_, _, rfl, ⟨?_, fun i hi => ?_, fun i hi => ?_, ?_, ?_⟩, b3.1⟩
          · simp only [upd]; rw [if_pos trivial, if_neg (by omega), if_neg (by omega), if_neg (by omega), r0, List.length_append, List.length_singleton, nI_1]
          · simp only [upd]
            by_cases ci : i = p.1.length
            · subst ci
              refine ⟨?_, ?_, ?_⟩
              · rw [if_neg (by omega), if_neg (by omega), if_neg (by omega), if_pos rfl]; simp
              · rw [if_neg (by omega), if_neg (by omega), if_pos rfl, w2 c2]; simp
              · rw [if_neg (by omega), if_pos rfl, w3 c3]; simp
            · have hi' : i < p.1.length := by (simp at hi; omega)
              rw [if_neg (by omega), if_neg (by omega), if_neg (by omega), if_neg (by omega), if_neg (by omega), if_neg (by omega), if_neg (by omega), if_neg (by omega), if_neg (by omega), if_neg (by omega), if_neg (by omega), if_neg (by omega)]
              simp only [List.getD_eq_getElem?_getD, List.getElem?_append_left hi']
              simpa only [List.getD_eq_getElem?_getD] using r1 i hi'
          · simp only [upd]; rw [if_neg (by omega), if_neg (by omega), if_neg (by omega), if_neg (by omega)]; exact r2 i hi
          · simp only [upd]; rw [if_neg (by omega), if_neg (by omega), if_neg (by omega), if_neg (by omega)]; exact r3
          · simp only [upd]; rw [if_neg (by omega), if_neg (by omega), if_neg (by omega), if_neg (by omega)]; exact r4
        · rw [if_neg c3, if_pos t00, if_pos (bff c3)]
          exact ⟨b3.2.1, _, _, _, _, rfl⟩
      · rw [if_neg c2, if_pos t00, if_pos (bff c2)]
        exact ⟨b2.2.1, _, _, _, _, rfl⟩
    rw [show (7 : Int32) - nI (bks p.1) = nI (7 - bks p.1) from nI_sub (a := 7) (by omega)]
    by_cases c4 : 4 ≤ 7 - bks p.1
    · rw [if_pos (show (4 : Int32) ≤ nI (7 - bks p.1) from nI_le (a := 4) c4 (by omega))]
      exact main 4 (by omega)
    · rw [if_neg (show ¬ (4 : Int32) ≤ nI (7 - bks p.1) from nI_ge (b := 4) (by omega) (by omega))]
      exact main (7 - bks p.1) (by omega)
  · rw [if_neg c1, if_pos t00, if_pos (bff c1)]
    exact ⟨b1.2.1, _, _, _, _, rfl⟩
end X

/-! PURE FC: the model reads chances, items -/
section X
variable {N : Nat} {x : Nat → Int32} {l : List Nat}
theorem chance_l_m (hN : 600 ≤ N) (h : MTx x (nI l.length) l) (h256 : ∀ c ∈ l, c < 256) {cc : Int32} : ∀ (n fu : Nat) (acc : List Nat) (t : Tk) (r : Nat → Int32) (ta ts tv : Int32), n + 1 + acc.length = 5 → n + 2 ≤ fu → acc.sum ≤ 10 * acc.length → t.2.2.2 ≤ l.length → (∀ i, i < acc.length → r (10 + i) = nI (acc.getD i 0)) → match pCh l (n + 1) acc t with
    | .inl b => b ≤ l.length ∧ ∃ r' a' s' v' c', mL_readChance_13 N x (nI l.length) fu (nI acc.sum) (nI acc.length) r (nI t.2.2.2) ta ts tv cc = some (0, r', a', nI b, s', v', c')
    | .inr (cs, t3) => ∃ r' v', mL_readChance_13 N x (nI l.length) fu (nI acc.sum) (nI acc.length) r (nI t.2.2.2) ta ts tv cc = some (1, r', nI t3.2.2.2, nI t3.1, nI (mS t3.2.1), v', 1) ∧ (∀ i, i < 5 → r' (10 + i) = nI (cs.getD i 0)) ∧ (∀ j, (j < 10 ∨ 15 ≤ j) → r' j = r j) ∧ t3.2.2.2 ≤ l.length := by
  intro n
  induction n with
  | zero =>
    intro fu acc t r ta ts tv hn hf hs ht hr
    obtain ⟨fu, rfl⟩ : ∃ z, fu = z + 1 + 1 := ⟨fu - 2, by omega⟩
    obtain ⟨v1, e1, w1⟩ := scanN_m hN h h256 ht (lo := 0) (hi := 10) (by omega) (by omega) (ta := ta) (ts := ts) (tv := tv)
    have b1 := lexT_le ht
    unfold pCh pCh mL_readChance_13
    rw [if_neg (show ¬ (5 : Int32) ≤ nI acc.length from nI_ge (b := 5) (by omega) (by omega)), show mF_scanNumber N x (nI l.length) 0 10 (nI t.2.2.2) ta ts tv = _ from e1]
    generalize lexT l t.2.2.2 = t1 at *
    simp only [Option.bind_some]
    by_cases c1 : nuI t1 0 10 = true
    · have k1 := (of_decide_eq_true c1).2
      rw [if_pos c1, if_neg n10, c1, show (10 : Int32) + nI acc.length = nI (10 + acc.length) from nI_add 10 _, gd_nI (by omega) (by omega), w1 c1]
      simp only [Option.bind_some]
      unfold mL_readChance_13 mB_readChance_72
      rw [nI_1, if_pos (show (5 : Int32) ≤ nI (acc.length + 1) from nI_le (a := 5) (by omega) (by omega)), nI_add]
      by_cases c2 : acc.sum + t1.2.2.1 = 10
      · rw [if_pos (show nI (acc.sum + t1.2.2.1) = (10 : Int32) from by rw [c2]; rfl), if_neg (show ¬ (true && (decide (0 ≠ 0) || decide (acc.sum + t1.2.2.1 = 10))) = false by simp [c2]), if_pos t11]
        refine ⟨_, _, rfl, fun i hi => ?_, fun j hj => ?_, b1.1⟩
        · simp only [upd]
          by_cases ci : i = acc.length
          · subst ci; rw [if_pos rfl]; simp
          · rw [if_neg (by omega), hr i (by omega)]
            simp only [List.getD_eq_getElem?_getD, List.getElem?_append_left (show i < acc.length by omega)]
        · simp only [upd]; rw [if_neg (by omega)]
      · rw [if_neg (show ¬ nI (acc.sum + t1.2.2.1) = (10 : Int32) from fun z => c2 ((nI_eq (b := 10) (by omega) (by omega)).mp z)), if_pos (show (true && (decide (0 ≠ 0) || decide (acc.sum + t1.2.2.1 = 10))) = false by simp [c2]), if_pos t01]
        exact ⟨b1.2.1, _, _, _, _, _, rfl⟩
    · rw [if_neg c1, if_pos t00, if_pos (by simp [Bool.eq_false_iff.mpr c1])]
      exact ⟨b1.2.1, _, _, _, _, _, rfl⟩
  | succ n ih =>
    intro fu acc t r ta ts tv hn hf hs ht hr
    obtain ⟨fu, rfl⟩ : ∃ z, fu = z + 1 := ⟨fu - 1, by omega⟩
    obtain ⟨v1, e1, w1⟩ := scanN_m hN h h256 ht (lo := 0) (hi := 10) (by omega) (by omega) (ta := ta) (ts := ts) (tv := tv)
    have b1 := lexT_le ht
    unfold pCh mL_readChance_13
    rw [if_neg (show ¬ (5 : Int32) ≤ nI acc.length from nI_ge (b := 5) (by omega) (by omega)), show mF_scanNumber N x (nI l.length) 0 10 (nI t.2.2.2) ta ts tv = _ from e1]
    generalize lexT l t.2.2.2 = t1 at *
    simp only [Option.bind_some]
    by_cases c1 : nuI t1 0 10 = true
    · have k1 := (of_decide_eq_true c1).2
      rw [if_pos c1, if_neg n10, if_neg (by simp [c1]), show (10 : Int32) + nI acc.length = nI (10 + acc.length) from nI_add 10 _, gd_nI (by omega) (by omega), w1 c1]
      simp only [Option.bind_some]
      have := ih fu (acc ++ [t1.2.2.1]) t1 (upd r (10 + acc.length) (nI t1.2.2.1)) (nI t1.1) (nI (mS t1.2.1)) (nI t1.2.2.1) (by simp; omega) (by omega) (by simp; omega) b1.1 (fun i hi => by
        simp only [upd]
        by_cases ci : i = acc.length
        · subst ci; rw [if_pos rfl]; simp
        · have hi' : i < acc.length := by (simp at hi; omega)
          rw [if_neg (by omega), hr i hi']
          simp only [List.getD_eq_getElem?_getD, List.getElem?_append_left hi'])
      rw [show (acc ++ [t1.2.2.1]).sum = acc.sum + t1.2.2.1 by simp, show (acc ++ [t1.2.2.1]).length = acc.length + 1 by simp, ← nI_add, ← nI_1] at this
      cases eR : pCh l (n + 1) (acc ++ [t1.2.2.1]) t1 with
      | inl b => rw [eR] at this; exact this
      | inr y =>
        obtain ⟨cs, t3⟩ := y
        rw [eR] at this
        obtain ⟨r', v', q1, q2, q3, q4⟩ := this
        refine ⟨r', v', q1, q2, fun j hj => ?_, q4⟩
        rw [q3 j hj]
        simp only [upd]; rw [if_neg (by omega)]
    · rw [if_neg c1, if_pos t00, if_pos (by simp [Bool.eq_false_iff.mpr c1])]
      exact ⟨b1.2.1, _, _, _, _, _, rfl⟩
theorem readChance_m (hN : 600 ≤ N) (h : MTx x (nI l.length) l) (h256 : ∀ c ∈ l, c < 256) {t : Tk} (ht : t.2.2.2 ≤ l.length) {r : Nat → Int32} {p : Pn} (hr : MRd r p) (hl3 : p.1.length ≤ 3) {ta ts tv : Int32} : match mpC p (pCh l 5 [] t) with
    | .inl b => b ≤ l.length ∧ ∃ r' a' s' v' c', mF_readChance N x (nI l.length) r (nI t.2.2.2) ta ts tv 0 = some (0, r', a', nI b, s', v', c')
    | .inr (p', t3) => ∃ r' v', mF_readChance N x (nI l.length) r (nI t.2.2.2) ta ts tv 0 = some (1, r', nI t3.2.2.2, nI t3.1, nI (mS t3.2.1), v', 1) ∧ MRd r' p' ∧ t3.2.2.2 ≤ l.length := by
  obtain ⟨r0, r1, r2, r3, r4⟩ := hr
  have := chance_l_m hN h h256 (cc := 0) 4 N [] t r ta ts tv rfl (by omega) (Nat.le_refl 0) ht (fun i hi => absurd hi (by simp))
  unfold mF_readChance
  rw [if_pos rfl]
  cases eR : pCh l 5 [] t with
  | inl b => rw [eR] at this; exact this
  | inr y =>
    obtain ⟨cs, t3⟩ := y
    rw [eR] at this
    obtain ⟨r', v', q1, q2, q3, q4⟩ := this
    refine ⟨r', v', q1, ⟨?_, fun i hi => ?_, q2, ?_, ?_⟩, q4⟩
    · rw [q3 0 (by omega)]; exact r0
    · have hi' : i < p.1.length := hi
      rw [q3 _ (by omega), q3 _ (by omega), q3 _ (by omega)]; exact r1 i hi
    · rw [q3 15 (by omega)]; exact r3
    · rw [q3 16 (by omega)]; exact r4
def bI (b : Bool) : Int32 := if b then 1 else 0
theorem mS_all : ∀ s, s < 7 → (nI (mS s) = 4 ↔ s = 3) ∧ (nI (mS s) = 5 ↔ s = 4) ∧ (nI (mS s) = 6 ↔ s = 5) ∧ (nI (mS s) = 59 ↔ s = 2) ∧ (nI (mS s) = 2 ↔ s = 0) := by decide
/-- what an item's reading is, in the model -/
def MIt (l : List Nat) (it : Nat) (Y : Option (Int32 × (Nat → Int32) × Int32 × Int32 × Int32 × Int32 × Int32 × Int32 × Int32)) (R : Nat ⊕ ((Pn × Bool × Bool) × Tk)) : Prop := match R with
  | .inl b => b ≤ l.length ∧ ∃ r' a' s' v' i' c' m', Y = some (0, r', a', nI b, s', v', i', c', m')
  | .inr ((p', fc', fs'), t3) => t3.2.2.2 ≤ l.length ∧ if (lexT l t3.2.2.2).2.1 = 2 then ∃ r' v', Y = some (1, r', nI (lexT l t3.2.2.2).2.2.2, nI (lexT l t3.2.2.2).1, nI (mS (lexT l t3.2.2.2).2.1), v', nI (it + 1), bI fc', bI fs') ∧ MRd r' p' else ∃ r' a' s' v' i' c' m', Y = some (0, r', a', nI (lexT l t3.2.2.2).1, s', v', i', c', m')
theorem item51_m (hN : 600 ≤ N) (h : MTx x (nI l.length) l) (h256 : ∀ c ∈ l, c < 256) {t3 : Tk} (ht : t3.2.2.2 ≤ l.length) {r : Nat → Int32} {p' : Pn} {fc' fs' : Bool} (hr : MRd r p') {it : Nat} {ta ts tv : Int32} : MIt l it (mB_readItem_51 N x (nI l.length) 1 r (nI t3.2.2.2) ta ts tv (nI it) (bI fc') (bI fs')) (.inr ((p', fc', fs'), t3)) := by
  unfold MIt mB_readItem_51 mB_readItem_86
  obtain ⟨v', e, -⟩ := scan_m hN h h256 ht (ta := ta) (ts := ts) (tv := tv)
  have hs := lexT_sort l t3.2.2.2
  refine ⟨ht, ?_⟩
  rw [if_neg n10, e]
  simp only [Option.bind_some]
  by_cases c : (lexT l t3.2.2.2).2.1 = 2
  · rw [if_pos ((mS_all _ (by omega)).2.2.2.1.mpr c), if_pos c, if_pos tT1, nI_1]
    exact ⟨_, _, rfl, hr⟩
  · rw [if_neg (fun z => c ((mS_all _ (by omega)).2.2.2.1.mp z)), if_neg c, if_pos tT0]
    exact ⟨_, _, _, _, _, _, _, rfl⟩
theorem readItem_m (hN : 600 ≤ N) (h : MTx x (nI l.length) l) (h256 : ∀ c ∈ l, c < 256) {t : Tk} (ht : t.2.2.2 ≤ l.length) (ht1 : t.1 ≤ l.length) (hs : t.2.1 ≤ 6) {r : Nat → Int32} {p : Pn} (hr : MRd r p) (hok : RsOk p.1) {it : Nat} {fc fs : Bool} {tv : Int32} : MIt l it (mF_readItem N x (nI l.length) r (nI t.2.2.2) (nI t.1) (nI (mS t.2.1)) tv (nI it) (bI fc) (bI fs)) (pItem l fc fs p t) := by
  obtain ⟨m4, m5, m6, m59, m2⟩ := mS_all t.2.1 (by omega)
  have no : ∀ {r : Nat → Int32} {a s v i c m : Int32} {b : Nat}, b ≤ l.length → MIt l it (mB_readItem_51 N x (nI l.length) 0 r a (nI b) s v i c m) (.inl b) := fun hb => by
    unfold MIt mB_readItem_51
    rw [if_pos rfl]
    exact ⟨hb, _, _, _, _, _, _, _, rfl⟩
  unfold mF_readItem pItem mB_readItem_50
  by_cases c3 : t.2.1 = 3
  · rw [if_pos (m4.mpr c3), if_pos c3]
    have := readRule_m hN h h256 ht ht1 hr hok (ts := nI (mS t.2.1)) (tv := tv)
    cases eR : pRule l p.1 t with
    | inl b =>
      rw [eR] at this
      obtain ⟨hb, r', a', s', v', e⟩ := this
      rw [e]
      exact no hb
    | inr y =>
      obtain ⟨rs, t3⟩ := y
      rw [eR] at this
      obtain ⟨r', v', e, q1, q2⟩ := this
      rw [e]
      exact item51_m hN h h256 q2 q1
  rw [if_neg (fun z => c3 (m4.mp z)), if_neg c3]
  by_cases c4 : t.2.1 = 4
  · rw [if_pos (m5.mpr c4), if_pos c4]
    cases fc with
    | true =>
      unfold mF_readChance
      rw [if_neg (show ¬ bI true = 0 by decide), if_pos rfl]
      exact no ht1
    | false =>
      rw [if_neg (by decide)]
      have := readChance_m hN h h256 ht hr hok.2.1 (ta := nI t.1) (ts := nI (mS t.2.1)) (tv := tv)
      cases eR : mpC p (pCh l 5 [] t) with
      | inl b =>
        rw [eR] at this
        obtain ⟨hb, r', a', s', v', c', e⟩ := this
        rw [show bI false = 0 from rfl, e]
        exact no hb
      | inr y =>
        obtain ⟨p', t3⟩ := y
        rw [eR] at this
        obtain ⟨r', v', e, q1, q2⟩ := this
        rw [show bI false = 0 from rfl, e]
        exact item51_m (fc' := true) hN h h256 q2 q1
  rw [if_neg (fun z => c4 (m5.mp z)), if_neg c4]
  by_cases c5 : t.2.1 = 5
  · rw [if_pos (m6.mpr c5), if_pos c5]
    cases fs with
    | true =>
      unfold mF_readSums mB_readSums_16
      rw [if_neg (show ¬ bI true = 0 by decide), if_pos rfl]
      exact no ht1
    | false =>
      rw [if_neg (by decide)]
      have := readSums_m hN h h256 ht hr hok.2.1 (ta := nI t.1) (ts := nI (mS t.2.1)) (tv := tv)
      cases eR : pSums l p t with
      | inl b =>
        rw [eR] at this
        obtain ⟨hb, r', a', s', v', c', e⟩ := this
        rw [show bI false = 0 from rfl, e]
        exact no hb
      | inr y =>
        obtain ⟨p', t3⟩ := y
        rw [eR] at this
        obtain ⟨r', v', e, q1, q2⟩ := this
        rw [show bI false = 0 from rfl, e]
        exact item51_m (fs' := true) hN h h256 q2 q1
  rw [if_neg (fun z => c5 (m6.mp z)), if_neg c5]
  exact no ht1
end X

/-! PURE 16: ArrayList: add, clear, iterators -/
section A
variable {V : HEn} {G : Gh} {nx o d : Nat} {l : List (Option Nat)}
abbrev okL : List Nat := [6, 26, 5, 100]
theorem cpR_at {b0 : Nat} {ar : Nat → ClassId} {cA : ClassId} {src dst n0 n1 n : Nat} {f g : Nat → Option Nat} {L : List Nat} (h0 : G src = some (.inl (cA, n0, .inr (.inr (.inr (.inr f)))))) (h1 : G dst = some (.inl (cA, n1, .inr (.inr (.inr (.inr g)))))) (hb : b0 ≤ dst) (hn : n ≤ n0) (hn1 : n ≤ n1) (hs : n < 2 ^ 31) (hok : ∀ i, i < n → gokA G ar (f i) L = true) : cpR b0 G ar cA src 0 dst 0 (nI n) L = some (gset G dst (.inl (cA, n1, .inr (.inr (.inr (.inr (va_cpy f g 0 0 n))))))) := by
  unfold cpR
  rw [h0, h1]
  simp only [nI_clamp hs]
  have z : (0 : Int32).toNatClampNeg = 0 := rfl
  rw [if_pos]
  · rfl
  · refine ⟨trivial, trivial, hb, by decide, by decide, nI_pos hs, by rw [z]; omega, by rw [z]; omega, ?_⟩
    rw [List.all_eq_true]
    intro i hi
    rw [z, Nat.zero_add]
    exact hok i (List.mem_range.mp hi)
theorem al_add {x : Option Nat} (h : AL V G o d l) (hl : l.length ≤ 100) (hold : o < nx ∧ d < nx) (hbx : V.1 ≤ nx) (h20 : True) (hok : ∀ y ∈ l, gokA G V.2.1 y okL = true) (hox : gokA G V.2.1 x okL = true) (hnd : ∀ y, (y ∈ l ∨ y = x) → ∀ a, y = some a → a < nx ∧ a ≠ o ∧ a ≠ d) :
    wH (hF_J2_add V G nx o x) (fun r G' c s => r = 1 ∧ c ≤ 1 ∧ s ≤ 150 ∧ (∃ d', AL V G' o d' (l ++ [x]) ∧ ((d' = d ∧ c = 0) ∨ (d' = nx ∧ c = 1))) ∧ ∀ b, b ≠ o → (b ≠ d ∨ b < V.1) → b < nx → G' b = G b) := by
  obtain ⟨m, n, f, h1, h2, h3, h4, h5, h6, h7, h8⟩ := h
  unfold hF_J2_add
  refine w_xI h1 rfl rfl (w_xF h1 rfl (Nat.le_of_ble_eq_true rfl) h5 rfl ?_)
  generalize hG1 : gset G o _ = G1
  have k1 : ∀ b, b ≠ o → G1 b = G b := fun b hb => by rw [← hG1, gset_ne _ _ hb]
  have e1 : G1 o = some (.inr (8, [.int (m + 1), va_rf (some d), .int (nI l.length)])) := by rw [← hG1, gset_eq]; rfl
  have e2 : G1 d = some (.inl (V.2.1 3, n, .inr (.inr (.inr (.inr f))))) := by rw [k1 d (Ne.symm h6)]; exact h2
  clear hG1
  have ok1 : ∀ y, (y ∈ l ∨ y = x) → gokA G1 V.2.1 y okL = true := by
    intro y hy
    refine gokA_keep (G := G) ?_ (fun a ha => k1 a (hnd y hy a ha).2.1)
    rcases hy with hy | hy
    · exact hok y hy
    · rw [hy]; exact hox
  refine w_xR e1 rfl rfl (w_xI e1 rfl rfl (w_pos (gC_at e1) ?_))
  have fin : ∀ (G2 : Gh) (d2 n2 c2 s2 : Nat) (f2 : Nat → Option Nat) (nx2 : Nat), G2 o = some (.inr (8, [.int (m + 1), va_rf (some d2), .int (nI l.length)])) → G2 d2 = some (.inl (V.2.1 3, n2, .inr (.inr (.inr (.inr f2))))) → l.length < n2 → n2 ≤ 200 → (∀ i (h : i < l.length), f2 i = l[i]) → V.1 ≤ d2 → o ≠ d2 → gokA G2 V.2.1 x okL = true → ((d2 = d ∧ c2 = 0) ∨ (d2 = nx ∧ c2 = 1)) → s2 ≤ 150 → (∀ b, b ≠ o → (b ≠ d ∨ b < V.1) → b < nx → G2 b = G b) →
      wH (hB_J2_add_2_11 V o G2 nx2 x (some d2) (nI l.length)) (fun _ G' c s => c2 + c ≤ 1 ∧ s2 + s ≤ 150 ∧ (∃ d', AL V G' o d' (l ++ [x]) ∧ ((d' = d ∧ c2 + c = 0) ∨ (d' = nx ∧ c2 + c = 1))) ∧ ∀ b, b ≠ o → (b ≠ d ∨ b < V.1) → b < nx → G' b = G b) := by
    intro G2 d2 n2 c2 s2 f2 nx2 t1 t2 t3 t4 t5 t6 t7 t8 t9 t10 t11
    unfold hB_J2_add_2_11
    refine w_some (w_pos t8 (w_wrR t2 t6 (gd_nI t3 (by omega)) ?_))
    refine w_xF (c := 8) (fs := [.int (m + 1), va_rf (some d2), .int (nI l.length)]) (by rw [gset_ne _ _ t7]; exact t1) rfl (Nat.le_of_ble_eq_true rfl) h5 rfl (w_ret ?_)
    refine ⟨by rcases t9 with t9 | t9 <;> omega, by omega, ⟨d2, ⟨m + 1, n2, va_up f2 l.length x, ?_, ?_, ?_, ?_, h5, t7, t4, Or.inl ⟨t6, by omega⟩⟩, ?_⟩, ?_⟩
    · rw [gset_eq, List.length_append]; show some _ = some _; rw [show [x].length = 1 from rfl, ← nI_1]; rfl
    · rw [gset_ne _ _ (Ne.symm t7), gset_eq]
    · rw [List.length_append]; exact t3
    · intro i hi
      rw [List.length_append] at hi
      by_cases c : i < l.length
      · rw [List.getElem_append_left c, up_ne _ _ (by omega)]; exact t5 i c
      · have : i = l.length := by simp at hi; omega
        subst this
        rw [up_eq]; simp
    · rcases t9 with ⟨z1, z2⟩ | ⟨z1, z2⟩
      · exact Or.inl ⟨z1, by omega⟩
      · exact Or.inr ⟨z1, by omega⟩
    · intro b b1 b2 b3
      have : b ≠ d2 := by rcases t9 with t9 | t9 <;> omega
      rw [gset_ne _ _ b1, gset_ne _ _ this]; exact t11 b b1 b2 b3
  refine w_call (Q' := fun _ G' c s => c ≤ 1 ∧ s ≤ 150 ∧ (∃ d', AL V G' o d' (l ++ [x]) ∧ ((d' = d ∧ c = 0) ∨ (d' = nx ∧ c = 1))) ∧ ∀ b, b ≠ o → (b ≠ d ∨ b < V.1) → b < nx → G' b = G b) ?_ ?_

  · unfold hF_J2_add_2
    refine w_some (w_aln e2 ?_)
    by_cases c : l.length = n
    · refine w_pos (by rw [c]) (w_pos (gC_at e1) ?_)
      unfold hF_J2_grow hF_J2_grow_2
      apply w_cB
      refine w_xI e1 rfl rfl (w_pos (gC_at e1) ?_)
      apply w_cB
      refine w_xR e1 rfl rfl (w_some (w_aln e2 ?_))
      rcases h8 with ⟨h8, h9⟩ | ⟨h8, h9⟩
      · -- a longer row
        refine w_pos (nI_lt (a := 0) h9 (by omega)) ?_
        unfold hB_J2_grow_2_20 hF_J9_newLength
        rw [nI_1, nI_sub (by omega)]
        have hsh : nI n >>> ((1 : Int32) &&& 31) = nI (n / 2) := by
          have key : ∀ k, k < 256 → nI k >>> ((1 : Int32) &&& 31) = nI (k / 2) := by decide +kernel
          exact key n (by omega)
        rw [hsh]
        obtain ⟨q, hq⟩ : ∃ q, q = (if l.length + 1 - n < n / 2 then n / 2 else l.length + 1 - n) := ⟨_, rfl⟩
        have hmax : (if nI (l.length + 1 - n) < nI (n / 2) then nI (n / 2) else nI (l.length + 1 - n)) = nI q := by
          by_cases c2 : l.length + 1 - n < n / 2
          · rw [if_pos (nI_lt c2 (by omega)), hq, if_pos c2]
          · rw [if_neg (nI_nlt (by omega) (by omega)), hq, if_neg c2]
        have hq1 : 1 ≤ q ∧ q ≤ 50 := by
          rw [hq]; split <;> omega
        rw [hmax, nI_add]
        refine w_call0 (r := nI (n + q)) (G := G1) ?_ ?_
        · rw [if_neg (fun z => nI_nle (n := n + q) (by omega) (by omega) z), if_neg]
          intro z
          have := Int32.lt_iff_toInt_lt.mp z
          rw [nI_toInt (by omega)] at this
          have e : (2147483639 : Int32).toInt = 2147483639 := by decide
          rw [e] at this
          omega
        · refine w_xR e1 rfl rfl ?_
          unfold hF_J11_copyOf_2 hF_J11_copyOf_3
          apply w_cB
          refine w_some (w_aln e2 ?_)
          apply w_cB
          refine w_pos rfl (w_gn (by omega) (w_tick (w_some ?_)))
          have e3 : ∀ e, gset G1 nx e d = some (.inl (V.2.1 3, n, .inr (.inr (.inr (.inr f))))) := fun e => by rw [gset_ne _ _ (by omega)]; exact e2
          refine w_aln (e3 _) ?_
          rw [if_neg (nI_nlt (by omega) (by omega))]
          refine w_bind (cpR_at (e3 _) (gset_eq _ _ _) hbx (Nat.le_refl _) (by omega) (by omega) (fun i hi => ?_)) ?_
          · rw [h4 i (by omega)]
            exact gokA_keep (ok1 _ (Or.inl (List.getElem_mem _))) (fun a ha => gset_ne _ _ (by have := (hnd _ (Or.inl (List.getElem_mem _)) a ha).1; omega))
          · refine w_ret (w_ret ?_)
            generalize hG3 : gset (gset G1 nx _) nx _ = G3
            have k3 : ∀ b, b ≠ nx → G3 b = G1 b := fun b hb => by rw [← hG3, gset_ne _ _ hb, gset_ne _ _ hb]
            have e4 : G3 nx = some (.inl (V.2.1 3, n + q, .inr (.inr (.inr (.inr (va_cpy f (fun _ => none) 0 0 n)))))) := by rw [← hG3]; exact gset_eq _ _ _
            clear hG3
            have e5 : G3 o = some (.inr (8, [.int (m + 1), va_rf (some d), .int (nI l.length)])) := by rw [k3 o (by omega)]; exact e1
            refine w_xF e5 rfl (Nat.le_of_ble_eq_true rfl) h5 rfl (w_ret (w_ret ?_))
            generalize hG4 : gset G3 o _ = G4
            have k4 : ∀ b, b ≠ o → G4 b = G3 b := fun b hb => by rw [← hG4, gset_ne _ _ hb]
            have e6 : G4 o = some (.inr (8, [.int (m + 1), va_rf (some nx), .int (nI l.length)])) := by rw [← hG4, gset_eq]; rfl
            clear hG4
            refine w_mono (fin G4 nx (n + q) 1 (n + q) _ _ e6 (by rw [k4 nx (by omega)]; exact e4) (by omega) (by omega) (fun i hi => ?_) hbx (by omega) ?_ (Or.inr ⟨rfl, rfl⟩) (by omega) (fun b b1 b2 b3 => ?_)) ?_
            · unfold va_cpy; rw [if_pos (by omega), Nat.zero_add, Nat.sub_zero]; exact h4 i hi
            · exact gokA_keep (ok1 _ (Or.inr rfl)) (fun a ha => by have := hnd _ (Or.inr rfl) a ha; rw [k4 a this.2.1, k3 a (by omega)])
            · rw [k4 b b1, k3 b (by omega), k1 b b1]
            · rintro r G' c' s' q'
              exact q'
      · -- the first row
        have n0 : n = 0 := h9
        refine w_neg (by rw [n0]; decide) (w_xR e1 rfl rfl (w_pos h8 ?_))
        have l0 : l.length = 0 := by omega
        have hmx : (if (10 : Int32) < nI l.length + 1 then nI l.length + 1 else (10 : Int32)) = nI 10 := by rw [l0]; decide
        rw [hmx]
        refine w_gn (by omega) (w_tick ?_)
        have e5 : gset G1 nx (.inl (V.2.1 3, 10, .inr (.inr (.inr (.inr (fun _ => none)))))) o = some (.inr (8, [.int (m + 1), va_rf (some d), .int (nI l.length)])) := by rw [gset_ne _ _ (by omega)]; exact e1
        refine w_xF e5 rfl (Nat.le_of_ble_eq_true rfl) h5 rfl (w_ret (w_ret ?_))
        generalize hG4 : gset (gset G1 nx _) o _ = G4
        have k4 : ∀ b, b ≠ o → b ≠ nx → G4 b = G1 b := fun b hb hb' => by rw [← hG4, gset_ne _ _ hb, gset_ne _ _ hb']
        have e6 : G4 o = some (.inr (8, [.int (m + 1), va_rf (some nx), .int (nI l.length)])) := by rw [← hG4, gset_eq]; rfl
        have e7 : G4 nx = some (.inl (V.2.1 3, 10, .inr (.inr (.inr (.inr (fun _ => none)))))) := by rw [← hG4, gset_ne _ _ (by omega), gset_eq]
        clear hG4
        refine w_mono (fin G4 nx 10 1 10 _ _ e6 e7 (by omega) (by omega) (fun i hi => by omega) hbx (by omega) ?_ (Or.inr ⟨rfl, rfl⟩) (by omega) (fun b b1 b2 b3 => by rw [k4 b b1 (by omega), k1 b b1])) ?_
        · exact gokA_keep (ok1 _ (Or.inr rfl)) (fun a ha => by have := hnd _ (Or.inr rfl) a ha; rw [k4 a this.2.1 (by omega)])
        · rintro r G' c' s' q'
          exact q'
    · refine w_neg (fun z => c ((nI_eq (by omega) (by omega)).mp z)) ?_
      have hd : V.1 ≤ d := by
        rcases h8 with ⟨h8, h9⟩ | ⟨h8, h9⟩
        · exact h8
        · omega
      refine w_mono (fin G1 d n 0 0 f _ e1 e2 (by omega) h7 h4 hd h6 (ok1 _ (Or.inr rfl)) (Or.inl ⟨rfl, rfl⟩) (by omega) (fun b b1 b2 b3 => k1 b b1)) ?_
      rintro r G' c' s' q'
      simpa using q'
  · rintro r G' c s ⟨q1, q2, q3, q4⟩
    exact w_ret ⟨rfl, q1, q2, q3, q4⟩
/-- an iterator of the list at o, at place k -/
def AIx (G : Gh) (it o : Nat) (l : List (Option Nat)) (k : Nat) : Prop := ∃ lr m d, G it = some (.inr (9, [.int (nI k), .int lr, .int m, va_rf (some o)])) ∧ G o = some (.inr (8, [.int m, va_rf (some d), .int (nI l.length)]))
theorem al_iterator (h : AL V G o d l) (hbx : V.1 ≤ nx) (ho : o < nx) : wH (hF_J2_iterator V G nx o) (fun r G' c s => r = some nx ∧ c = 1 ∧ s = 4 ∧ AIx G' nx o l 0 ∧ ∀ b, b ≠ nx → G' b = G b) := by
  obtain ⟨m, n, f, h1, h2, h3⟩ := h
  unfold hF_J2_iterator hF_J16_init
  refine w_tick ?_
  apply w_cB
  have ho' : ∀ e, gset G nx e o = some (.inr (8, [.int m, va_rf (some d), .int (nI l.length)])) := fun e => by rw [gset_ne _ _ (by omega)]; exact h1
  refine w_xF (gset_eq _ _ _) rfl (Nat.le_of_ble_eq_true rfl) hbx rfl (w_xF (gset_eq _ _ _) rfl (Nat.le_of_ble_eq_true rfl) hbx rfl (w_xR (gset_eq _ _ _) rfl rfl (w_some ?_)))
  refine w_xI (x := m) (c := 8) (fs := [.int m, va_rf (some d), .int (nI l.length)]) (k := 0) (by simp only [gset_ne _ _ (show o ≠ nx by omega)]; exact h1) rfl rfl (w_xF (gset_eq _ _ _) rfl (Nat.le_of_ble_eq_true rfl) hbx rfl (w_ret (w_ret ?_)))
  refine ⟨rfl, rfl, rfl, ⟨-1, m, d, gset_eq _ _ _, by simp only [gset_ne _ _ (show o ≠ nx by omega)]; exact h1⟩, fun b hb => by simp only [gset_ne _ _ hb]⟩
theorem al_hasNext {it k : Nat} (hit : AIx G it o l k) (hk : k ≤ l.length) (hl : l.length < 1000) : hF_J16_hasNext V G nx it = some (if k < l.length then (1 : Int32) else 0, G, 0, 0) := by
  obtain ⟨lr, m, d, e1, e2⟩ := hit
  have hw : wH (hF_J16_hasNext V G nx it) (fun r G' c s => r = (if k < l.length then (1 : Int32) else 0) ∧ G' = G ∧ c = 0 ∧ s = 0) := by
    unfold hF_J16_hasNext hB_J16_hasNext_19
    refine w_xI e1 rfl rfl (w_xR e1 rfl rfl (w_some (w_xI e2 rfl rfl ?_)))
    by_cases c : k = l.length
    · rw [c]
      refine w_pos rfl (w_pos rfl (w_ret ?_))
      simp
    · refine w_neg (fun z => c ((nI_eq (by omega) (by omega)).mp z)) (w_pos rfl (w_ret ?_))
      rw [if_pos (show k < l.length by omega)]; exact ⟨rfl, rfl, rfl, rfl⟩
  obtain ⟨r, G', c, s, e, rfl, rfl, rfl, rfl⟩ := hw
  exact e
theorem al_next {it k : Nat} (h : AL V G o d l) (hit : AIx G it o l k) (hk : k < l.length) (hb : V.1 ≤ it) (hne : it ≠ o ∧ it ≠ d) : wH (hF_J16_next V G nx it) (fun r G' c s => r = l[k] ∧ c = 0 ∧ s = 0 ∧ AIx G' it o l (k + 1) ∧ ∀ b, b ≠ it → G' b = G b) := by
  obtain ⟨m0, n, f, h1, h2, h3, h4, h5, h6, h7, h8⟩ := h
  obtain ⟨lr, m, d0, e1, e2⟩ := hit
  have e12 := e2.symm.trans h1
  have em : m = m0 ∧ d0 = d := by
    have := (Prod.mk.inj (Sum.inr.inj (Option.some.inj e12))).2
    have t1 := List.cons.inj this
    have t2 := List.cons.inj t1.2
    refine ⟨Value.int.inj t1.1, ?_⟩
    have t3 : Value.ref d0 = Value.ref d := t2.1
    exact Value.ref.inj t3
  obtain ⟨rfl, rfl⟩ := em
  unfold hF_J16_next hF_J16_checkForComodification
  refine w_pos (gC_at e1) ?_
  apply w_cB
  refine w_xR e1 rfl rfl (w_some (w_xI e2 rfl rfl (w_xI e1 rfl rfl (w_pos rfl (w_ret ?_)))))
  refine w_xI e1 rfl rfl (w_xR e1 rfl rfl (w_some (w_xI e2 rfl rfl (w_pos (nI_lt hk (by omega)) ?_))))
  refine w_xR e1 rfl rfl (w_some (w_xR e2 rfl rfl (w_some (w_aln h2 (w_pos (nI_lt (by omega) (by omega)) ?_)))))
  refine w_xF e1 rfl (Nat.le_of_ble_eq_true rfl) hb rfl (w_xF (gset_eq _ _ _) rfl (Nat.le_of_ble_eq_true rfl) hb rfl ?_)
  refine w_rdR (cA := V.2.1 3) (n := n) (f := f) (by rw [gset_ne _ _ (Ne.symm hne.2), gset_ne _ _ (Ne.symm hne.2)]; exact h2) (gd_nI (show k < n by omega) (by omega)) (w_ret ?_)
  refine ⟨h4 k hk, rfl, rfl, ⟨nI k, m, d0, ?_, by rw [gset_ne _ _ (Ne.symm hne.1), gset_ne _ _ (Ne.symm hne.1)]; exact e2⟩, fun b hb => by rw [gset_ne _ _ hb, gset_ne _ _ hb]⟩
  rw [gset_eq, ← nI_1]; rfl
theorem clear_loop {n : Nat} {m0 : Int32} : ∀ (q nx i N : Nat) (G : Gh) (f : Nat → Option Nat), V.1 ≤ d → G d = some (.inl (V.2.1 3, n, .inr (.inr (.inr (.inr f))))) → N ≤ n → n ≤ 200 → i ≤ N → N - i + 1 ≤ q → wH (hL_J2_clear_27 V o q G nx (some d) (nI N) (nI i)) (fun _ G' c s => c = 0 ∧ s = 0 ∧ (∃ f', G' d = some (.inl (V.2.1 3, n, .inr (.inr (.inr (.inr f')))))) ∧ ∀ b, b ≠ d → G' b = G b) := by
  intro q
  induction q with
  | zero => intros; omega
  | succ q ih =>
    intro nx i N G f h1 h2 h3 h4 h5 h6
    rw [hL_J2_clear_27]
    by_cases c : N ≤ i
    · exact w_pos (nI_le c (by omega)) (w_ret ⟨rfl, rfl, ⟨f, h2⟩, fun _ _ => rfl⟩)
    · refine w_neg (nI_ge (by omega) (by omega)) (w_some (w_pos rfl (w_wrR h2 h1 (gd_nI (show i < n by omega) (by omega)) ?_)))
      rw [nI_1]
      refine w_mono (ih nx (i + 1) N _ _ h1 (gset_eq _ _ _) h3 h4 (by omega) (by omega)) ?_
      rintro r G' c' s' ⟨q1, q2, q3, q4⟩
      exact ⟨q1, q2, q3, fun b hb => by rw [q4 b hb, gset_ne _ _ hb]⟩
theorem al_clear (hV : 300 ≤ V.2.2.2.2) (h : AL V G o d l) : wH (hF_J2_clear V G nx o) (fun _ G' c s => c = 0 ∧ s = 0 ∧ AL V G' o d [] ∧ ∀ b, b ≠ o → b ≠ d → G' b = G b) := by
  obtain ⟨m, n, f, h1, h2, h3, h4, h5, h6, h7, h8⟩ := h
  unfold hF_J2_clear
  refine w_xI h1 rfl rfl (w_xF h1 rfl (Nat.le_of_ble_eq_true rfl) h5 rfl (w_xR (gset_eq _ _ _) rfl rfl (w_xI (gset_eq _ _ _) rfl rfl (w_xF (gset_eq _ _ _) rfl (Nat.le_of_ble_eq_true rfl) h5 rfl ?_))))
  generalize hG1 : gset (gset G o _) o _ = G1
  have k1 : ∀ b, b ≠ o → G1 b = G b := fun b hb => by rw [← hG1, gset_ne _ _ hb, gset_ne _ _ hb]
  have e1 : G1 o = some (.inr (8, [.int (m + 1), va_rf (some d), .int (nI 0)])) := by rw [← hG1, gset_eq]; rfl
  have e2 : G1 d = some (.inl (V.2.1 3, n, .inr (.inr (.inr (.inr f))))) := by rw [k1 d (Ne.symm h6)]; exact h2
  clear hG1
  rcases h8 with ⟨h8, h9⟩ | ⟨h8, h9⟩
  · refine w_mono (clear_loop (o := o) (m0 := m) V.2.2.2.2 nx 0 l.length G1 f h8 e2 h3 h7 (by omega) (by omega)) ?_
    rintro r G' c' s' ⟨q1, q2, ⟨f', q3⟩, q4⟩
    exact ⟨q1, q2, ⟨m + 1, n, f', by rw [q4 o h6]; exact e1, q3, by simp, fun i hi => by simp at hi, h5, h6, h7, Or.inl ⟨h8, h9⟩⟩, fun b b1 b2 => by rw [q4 b b2, k1 b b1]⟩
  · have l0 : l.length = 0 := by omega
    rw [l0]
    obtain ⟨q, hq⟩ := Nat.exists_eq_succ_of_ne_zero (show V.2.2.2.2 ≠ 0 by omega)
    rw [hq, hL_J2_clear_27]
    refine w_pos (nI_le (a := 0) (b := 0) (Nat.le_refl 0) (by decide)) (w_ret ⟨rfl, rfl, ⟨m + 1, n, f, e1, e2, by simp, fun i hi => by simp at hi, h5, h6, h7, Or.inr ⟨h8, h9⟩⟩, fun b b1 b2 => k1 b b1⟩)
end A

/-! PURE 7: sorted rows; searching in a TreeMap -/
def Srt (l : List (Nat × Nat)) : Prop := ∀ (i j : Nat) (x y : Nat × Nat), i < j → l[i]? = some x → l[j]? = some y → x.1 < y.1
/-- p: how many keys are below x -/
def LowB (l : List (Nat × Nat)) (x p : Nat) : Prop := p ≤ l.length ∧ ∀ (i : Nat) (y : Nat × Nat), l[i]? = some y → (i < p ↔ y.1 < x)
theorem LowB.ex {l : List (Nat × Nat)} (h : Srt l) (x : Nat) : ∃ p, LowB l x p := by
  have key : ∀ k, k ≤ l.length → ∃ p, p ≤ k ∧ ∀ (i : Nat) (y : Nat × Nat), i < k → l[i]? = some y → (i < p ↔ y.1 < x) := by
    intro k
    induction k with
    | zero => intro _; exact ⟨0, Nat.le_refl _, fun i y h => absurd h (Nat.not_lt_zero _)⟩
    | succ k ih =>
      intro hk
      obtain ⟨p, h1, h2⟩ := ih (by omega)
      have e : l[k]? = some l[k] := List.getElem?_eq_getElem (by omega)
      by_cases c : l[k].1 < x
      · refine ⟨k + 1, Nat.le_refl _, fun i y hi hy => ?_⟩
        refine ⟨fun _ => ?_, fun _ => hi⟩
        by_cases c2 : i = k
        · subst c2; rw [e] at hy; cases hy; exact c
        · exact Nat.lt_trans (h i k y l[k] (by omega) hy e) c
      · refine ⟨p, by omega, fun i y hi hy => ?_⟩
        by_cases c2 : i = k
        · subst c2; rw [e] at hy; cases hy
          exact ⟨fun z => absurd z (by omega), fun z => absurd z c⟩
        · exact h2 i y (by omega) hy
  obtain ⟨p, h1, h2⟩ := key l.length (Nat.le_refl _)
  exact ⟨p, h1, fun i y hy => h2 i y (List.getElem?_eq_some_iff.mp hy).1 hy⟩
/-- nodes hold the rows -/
def Hold (V : HEn) (G : Gh) (N : Nat → Prop) (kv vv : Nat → Option Nat) (ps : Nat → Nat) (l : List (Nat × Nat)) : Prop := ∀ a, N a → ∃ k v, l[ps a]? = some (k, v) ∧ IsInt V G (kv a) k ∧ IsInt V G (vv a) v ∧ k < 128 ∧ v < 128
theorem compareTo_at {V : HEn} {G : Gh} {nx a b x y : Nat} (ha : G a = some (.inr (26, [.int (nI x)]))) (hb : G b = some (.inr (26, [.int (nI y)]))) (hx : x < 128) (hy : y < 128) : hF_J23_compareTo V G nx a (some b) = some (if x < y then (-1 : Int32) else if x = y then 0 else 1, G, 0, 0) := by
  have hw : wH (hF_J23_compareTo V G nx a (some b)) (fun r G' c s => r = (if x < y then (-1 : Int32) else if x = y then 0 else 1) ∧ G' = G ∧ c = 0 ∧ s = 0) := by
    unfold hF_J23_compareTo hF_J23_compareTo_2 hF_J23_compare hB_J23_compare_19
    refine w_pos (gok_at hb (by simp)) (w_pos (gC_at ha) ?_)
    apply w_cB
    refine w_xI ha rfl rfl (w_some (w_xI hb rfl rfl ?_))
    apply w_cB
    by_cases c1 : x < y
    · refine w_neg (nI_ge c1 (by omega)) (w_ret (w_ret (w_ret ?_)))
      simp [c1]
    · refine w_pos (nI_le (by omega) (by omega)) ?_
      by_cases c2 : x = y
      · subst c2
        refine w_pos rfl (w_ret (w_ret (w_ret ?_)))
        simp
      · refine w_neg (fun z => c2 ((nI_eq (by omega) (by omega)).mp z)) (w_ret (w_ret (w_ret ?_)))
        simp [c1, c2]
  obtain ⟨r, G', c, s, e, rfl, rfl, rfl, rfl⟩ := hw
  exact e
section T
variable {V : HEn} {G : Gh} {o n nx : Nat} {N : Nat → Prop} {lf rt pa : Nat → Option Nat} {co : Nat → Int32} {kv vv : Nat → Option Nat}
variable {x0 x1 root es ks x8 : Option Nat} {sz mc : Int32} {ps lo hi : Nat → Nat} {l : List (Nat × Nat)}
theorem getEntry_loop {ik x p : Nat} (h : TNd V G o N lf rt pa co kv vv) (hs : Shp N l.length root lf rt pa ps lo hi) (hh : Hold V G N kv vv ps l) (hik : G ik = some (.inr (26, [.int (nI x)]))) (hx : x < 128) (hp : LowB l x p) (hsr : Srt l) :
    ∀ (m nx a : Nat), N a → lo a ≤ p → p ≤ hi a → (p = hi a → ∀ y, l[p]? = some y → ¬ y.1 = x) → hi a - lo a + 1 ≤ m →
    ∃ r, hL_J4_getEntry_28 V o m G nx (some ik) (some a) = some (r, G, 0, 0) ∧ ((∃ b v, r = some b ∧ N b ∧ ps b = p ∧ l[p]? = some (x, v)) ∨ (r = none ∧ ∀ y, l[p]? = some y → ¬ y.1 = x)) := by
  intro m
  induction m with
  | zero => intro nx a ha h1 h2 h3 h4; omega
  | succ m ih =>
    intro nx a ha h1 h2 h3 h4
    obtain ⟨k, v, hk, ⟨ka, e1, e2, e3⟩, -, k128, -⟩ := hh a ha
    obtain ⟨s1, s2, s3, s4, s5, s6, s7, s8, s9, s10, s11⟩ := hs
    have b1 := s1 a ha
    have b2 := hp.2 (ps a) _ hk
    have rd : xR G a fl_TreeMap_Entry_key = some (some ka) := by rw [← e1]; exact xR_at (h a ha).1 rfl rfl
    rw [hL_J4_getEntry_28, if_neg (by simp)]
    show ∃ r, (xR G a fl_TreeMap_Entry_key).bind _ = _ ∧ _
    rw [rd]
    show ∃ r, (if gC G ik 26 = true then _ else none) = _ ∧ _
    rw [if_pos (gC_at hik), compareTo_at hik e3 hx k128]
    rcases Nat.lt_trichotomy x k with c | c | c
    · rw [if_pos c]
      have hne : m ≠ 0 := by omega
      show ∃ r, (tick 0 0 ((xR G a fl_TreeMap_Entry_left).bind _)) = _ ∧ _
      rw [xR_at (r := lf a) (h a ha).1 rfl rfl]
      have c' : ¬ ps a < p := fun z => by have := b2.mp z; simp at this; omega
      cases el : lf a with
      | none =>
        obtain ⟨m', rfl⟩ := Nat.exists_eq_succ_of_ne_zero hne
        refine ⟨none, rfl, Or.inr ⟨rfl, ?_⟩⟩
        have := s6 a ha el
        have hpa : p = ps a := by omega
        intro y hy
        rw [hpa, hk] at hy
        cases hy
        simp; omega
      | some b =>
        obtain ⟨t1, t2, t3, t4⟩ := s7 a b ha el
        obtain ⟨r, q1, q2⟩ := ih (nx + 0) b t1 (by omega) (by omega) (fun z y hy => by
          have hpa : p = ps a := by omega
          rw [hpa, hk] at hy
          cases hy
          simp; omega) (by have := s1 b t1; omega)
        refine ⟨r, ?_, q2⟩
        show tick 0 0 (hL_J4_getEntry_28 V o m G (nx + 0) (some ik) (some b)) = _
        rw [q1]; rfl
    · subst c
      rw [if_neg (Nat.lt_irrefl _), if_pos rfl]
      have z1 : ¬ ps a < p := fun z => by have := b2.mp z; simp at this
      have z2 : ps a = p := by
        rcases Nat.lt_or_ge p (ps a) with z | z
        · obtain ⟨y, hy⟩ : ∃ y, l[p]? = some y := ⟨l[p]'(by omega), List.getElem?_eq_getElem (by omega)⟩
          have w1 := hsr p (ps a) _ _ z hy hk
          have w2 := hp.2 p _ hy
          simp at w1
          exact absurd (w2.mpr w1) (Nat.lt_irrefl _)
        · omega
      refine ⟨some a, rfl, Or.inl ⟨a, v, rfl, ha, z2, ?_⟩⟩
      rw [← z2]; exact hk
    · have c1 : ¬ x < k := by omega
      have c2 : ¬ x = k := by omega
      rw [if_neg c1, if_neg c2]
      have hne : m ≠ 0 := by omega
      show ∃ r, (tick 0 0 ((xR G a fl_TreeMap_Entry_right).bind _)) = _ ∧ _
      rw [xR_at (r := rt a) (h a ha).1 rfl rfl]
      have c' : ps a < p := b2.mpr (by simp; omega)
      cases el : rt a with
      | none =>
        obtain ⟨m', rfl⟩ := Nat.exists_eq_succ_of_ne_zero hne
        refine ⟨none, rfl, Or.inr ⟨rfl, ?_⟩⟩
        have := s8 a ha el
        exact h3 (by omega)
      | some b =>
        obtain ⟨t1, t2, t3, t4⟩ := s9 a b ha el
        obtain ⟨r, q1, q2⟩ := ih (nx + 0) b t1 (by omega) (by omega) (fun z => h3 (by omega)) (by have := s1 b t1; omega)
        refine ⟨r, ?_, q2⟩
        show tick 0 0 (hL_J4_getEntry_28 V o m G (nx + 0) (some ik) (some b)) = _
        rw [q1]; rfl
/-- a TreeMap at o: its nodes N, rows l -/
def TMx (V : HEn) (G : Gh) (o : Nat) (N : Nat → Prop) (kv vv : Nat → Option Nat) (ps : Nat → Nat) (mc : Int32) (es ks : Option Nat) (l : List (Nat × Nat)) : Prop := (∃ x0 x1 x8, TreeOk V G o N l.length kv vv ps x0 x1 (nI l.length) mc es ks x8) ∧ Hold V G N kv vv ps l ∧ Srt l ∧ V.1 ≤ o ∧ l.length ≤ 100 ∧ (∀ e, es = some e → G e = some (.inr (14, [va_rf (some o)])) ∧ V.1 ≤ e) ∧ (∀ e, ks = some e → G e = some (.inr (12, [va_rf (some o)])) ∧ V.1 ≤ e)
theorem getEntry_at {ik x p : Nat} (hV : 200 ≤ V.2.2.2.2) (h : TMx V G o N kv vv ps mc es ks l) (hik : G ik = some (.inr (26, [.int (nI x)]))) (hx : x < 128) (hp : LowB l x p) :
    ∃ r, hF_J4_getEntry V G nx o (some ik) = some (r, G, 0, 0) ∧ ((∃ b v, r = some b ∧ N b ∧ ps b = p ∧ l[p]? = some (x, v)) ∨ (r = none ∧ ∀ y, l[p]? = some y → ¬ y.1 = x)) := by
  obtain ⟨⟨x0, x1, x8, root, lf, rt, pa, co, lo, hi, h1, h2, h3⟩, h4, h5, h6, h7, h8, h9⟩ := h
  have key : ∃ r, hL_J4_getEntry_28 V o V.2.2.2.2 G (nx + 0) (some ik) root = some (r, G, 0, 0) ∧ ((∃ b v, r = some b ∧ N b ∧ ps b = p ∧ l[p]? = some (x, v)) ∨ (r = none ∧ ∀ y, l[p]? = some y → ¬ y.1 = x)) := by
    cases er : root with
    | none =>
      obtain ⟨m', hm⟩ := Nat.exists_eq_succ_of_ne_zero (show V.2.2.2.2 ≠ 0 by omega)
      refine ⟨none, by rw [hm]; rfl, Or.inr ⟨rfl, ?_⟩⟩
      have e0 := h3.2.2.2.2.1 er
      intro y hy
      have := (List.getElem?_eq_some_iff.mp hy).1
      omega
    | some r =>
      obtain ⟨r1, r2, r3, r4⟩ := h3.2.2.2.1 r er
      refine getEntry_loop h1 h3 h4 hik hx hp h5 _ _ r r1 (by omega) (by have := hp.1; omega) (fun z y hy => ?_) (by omega)
      have := (List.getElem?_eq_some_iff.mp hy).1
      omega
  obtain ⟨r, k1, k2⟩ := key
  refine ⟨r, ?_, k2⟩
  have hw : wH (hF_J4_getEntry V G nx o (some ik)) (fun r' G' c s => r' = r ∧ G' = G ∧ c = 0 ∧ s = 0) := by
    unfold hF_J4_getEntry
    refine w_xR h2 rfl rfl (w_pos rfl (w_call0 (r := some ik) (G := G) ?_ ?_))
    · rfl
    · refine w_pos (gok_at hik (by simp)) (w_xR h2 rfl rfl ?_)
      exact ⟨_, _, _, _, k1, rfl, rfl, rfl, rfl⟩
  obtain ⟨r', G', c, s, e, rfl, rfl, rfl, rfl⟩ := hw
  exact e
end T

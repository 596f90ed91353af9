/-! PURE 9: TreeMap.put of a key that is there; containsKey, get, size -/
section T
variable {V : HEn} {G : Gh} {o n nx : Nat} {N : Nat → Prop} {lf rt pa : Nat → Option Nat} {co : Nat → Int32} {kv vv : Nat → Option Nat}
variable {x0 x1 root es ks x8 : Option Nat} {sz mc : Int32} {ps lo hi : Nat → Nat} {l : List (Nat × Nat)}
theorem low_at {x p i : Nat} {v : Nat} (hsr : Srt l) (hp : LowB l x p) (h : l[i]? = some (x, v)) : i = p := by
  have b2 := hp.2 i _ h
  have z1 : ¬ i < p := fun z => by have := b2.mp z; simp at this
  rcases Nat.lt_or_ge p i with z | z
  · have hlen := (List.getElem?_eq_some_iff.mp h).1
    obtain ⟨y, hy⟩ : ∃ y, l[p]? = some y := ⟨l[p]'(by omega), List.getElem?_eq_getElem (by omega)⟩
    have w1 := hsr p i _ _ z hy h
    have w2 := hp.2 p _ hy
    simp at w1
    exact absurd (w2.mpr w1) (Nat.lt_irrefl _)
  · omega
abbrev setPost (V : HEn) (G : Gh) (o : Nat) (N : Nat → Prop) (kv vv : Nat → Option Nat) (ps : Nat → Nat) (mc : Int32) (es ks : Option Nat) (l : List (Nat × Nat)) (x v p : Nat) : Gh → Nat → Nat → Prop := fun G' c s => c = 0 ∧ s = 0 ∧ (∃ vv', TMx V G' o N kv vv' ps mc es ks (l.set p (x, v))) ∧ ∀ b, ¬ N b → G' b = G b
theorem set_loop {ik iv x v p w0 : Nat} (h : TNd V G o N lf rt pa co kv vv) (ho : G o = some (tobj x0 x1 root (nI l.length) mc es ks x8)) (hs : Shp N l.length root lf rt pa ps lo hi) (hh : Hold V G N kv vv ps l) (hsr : Srt l) (hb : V.1 ≤ o) (hl : l.length ≤ 100) (hes : ∀ e, es = some e → G e = some (.inr (14, [va_rf (some o)])) ∧ V.1 ≤ e) (hks : ∀ e, ks = some e → G e = some (.inr (12, [va_rf (some o)])) ∧ V.1 ≤ e)
    (hik : IsInt V G (some ik) x) (hiv : IsInt V G (some iv) v) (hx : x < 128) (hv : v < 128) (hp : LowB l x p) (hpr : l[p]? = some (x, w0)) :
    ∀ (m nx a : Nat), N a → lo a ≤ p → p < hi a → hi a - lo a ≤ m →
    wH (hL_J4_put_2_123 V o m G nx (some ik) (some iv) 1 (some a) (some ik)) (fun _ => setPost V G o N kv vv ps mc es ks l x v p) := by
  intro m
  have hik' := hik
  obtain ⟨ik', z0, ikb, iks⟩ := hik'
  cases z0
  induction m with
  | zero => intro nx a ha h1 h2 h5; have := hs.1 a ha; omega
  | succ m ih =>
    intro nx a ha h1 h2 h5
    obtain ⟨k, w, hk, ⟨ka, e1, e2, e3⟩, e4, k128, w128⟩ := hh a ha
    have hs' := hs
    obtain ⟨s1, s2, s3, s4, s5, s6, s7, s8, s9, s10, s11⟩ := hs'
    have b1 := s1 a ha
    have b2 := hp.2 (ps a) _ hk
    rw [hL_J4_put_2_123]
    refine w_some (w_tK h ha ?_)
    rw [e1]
    refine w_some (w_pos (gC_at iks) (w_call0 (compareTo_at iks e3 hx k128) ?_))
    rcases Nat.lt_trichotomy x k with c | c | c
    · rw [if_pos c]
      refine w_neg (by decide) (w_tL h ha ?_)
      have c' : ¬ ps a < p := fun z => by have := b2.mp z; simp at this; omega
      have c'' : p ≠ ps a := by
        intro z; subst z
        rw [hpr] at hk; cases hk; omega
      unfold hB_J4_put_2_196
      cases el : lf a with
      | none => have := s6 a ha el; omega
      | some b =>
        obtain ⟨t1, t2, t3, t4⟩ := s7 a b ha el
        exact w_neg (by simp) (ih _ b t1 (by omega) (by omega) (by omega))
    · subst c
      have hpa : ps a = p := low_at hsr hp hk
      rw [if_neg (Nat.lt_irrefl _), if_pos rfl]
      refine w_pos (by decide) (w_pos (by decide) (w_tV h ha (w_neg (by decide) ?_)))
      unfold hB_J4_put_2_187 hB_J4_put_2_193
      refine w_some (w_tsV h ha ?_)
      intro G1 h1' k1
      have kb : ∀ b, b < V.1 → G1 b = G b := fun b hb => k1 b (by have := (h a ha).2.1; omega)
      have ao := (h a ha).2.2.1
      have len : (l.set p (x, v)).length = l.length := List.length_set
      refine w_ret ⟨rfl, rfl, ⟨_, ⟨x0, x1, x8, root, lf, rt, pa, co, lo, hi, h1', ?_, ?_⟩, ?_, ?_, hb, by omega, ?_, ?_⟩, ?_⟩
      · rw [k1 o (Ne.symm ao), ho, len]
      · rw [len]; exact hs
      · intro b hb
        obtain ⟨k', w', q1, q2, q3, q4, q5⟩ := hh b hb
        by_cases cb : b = a
        · subst cb
          rw [hk] at q1; cases q1
          refine ⟨x, v, ?_, q2.keep kb, by rw [up_eq]; exact hiv.keep kb, q4, hv⟩
          rw [hpa, List.getElem?_set_self (by omega)]
        · refine ⟨k', w', ?_, q2.keep kb, by rw [up_ne _ _ cb]; exact q3.keep kb, q4, q5⟩
          rw [List.getElem?_set_ne (by intro z; exact cb (s2 b a hb ha (by omega)))]; exact q1
      · intro i j y z hij hy hz
        have ek : ∀ (i : Nat) (y : Nat × Nat), (l.set p (x, v))[i]? = some y → ∃ y' : Nat × Nat, l[i]? = some y' ∧ y'.1 = y.1 := by
          intro i y hy
          by_cases ci : p = i
          · subst ci
            rw [List.getElem?_set_self (by omega)] at hy
            cases hy
            exact ⟨_, hpr, rfl⟩
          · rw [List.getElem?_set_ne ci] at hy
            exact ⟨y, hy, rfl⟩
        obtain ⟨y', y1, y2⟩ := ek i y hy
        obtain ⟨z', z1, z2⟩ := ek j z hz
        have := hsr i j _ _ hij y1 z1
        omega
      · intro e he
        have w := hes e he
        have w2 : e ≠ a := fun z => by subst z; have := (h e ha).1; rw [w.1] at this; cases this
        rw [k1 e w2]; exact w
      · intro e he
        have w := hks e he
        have w2 : e ≠ a := fun z => by subst z; have := (h e ha).1; rw [w.1] at this; cases this
        rw [k1 e w2]; exact w
      · intro b hb; exact k1 b (fun z => hb (z ▸ ha))
    · have c1 : ¬ x < k := by omega
      have c2 : ¬ x = k := by omega
      rw [if_neg c1, if_neg c2]
      refine w_pos (by decide) (w_neg (by decide) (w_tR h ha ?_))
      have c' : ps a < p := b2.mpr (by simp; omega)
      unfold hB_J4_put_2_196
      cases el : rt a with
      | none => have := s8 a ha el; omega
      | some b =>
        obtain ⟨t1, t2, t3, t4⟩ := s9 a b ha el
        exact w_neg (by simp) (ih _ b t1 (by omega) (by omega) (by omega))
theorem put_old {ik iv x v p w0 : Nat} (hV : 200 ≤ V.2.2.2.2) (h : TMx V G o N kv vv ps mc es ks l) (hik : IsInt V G (some ik) x) (hiv : IsInt V G (some iv) v) (hx : x < 128) (hv : v < 128) (hp : LowB l x p) (hpr : l[p]? = some (x, w0)) :
    wH (hF_J4_put V G nx o (some ik) (some iv)) (fun _ => setPost V G o N kv vv ps mc es ks l x v p) := by
  obtain ⟨⟨x0, x1, x8, root, lf, rt, pa, co, lo, hi, h1, h2, h3⟩, h4, h5, h6, h7, h8, h9⟩ := h
  have hik' := hik
  obtain ⟨ik', z0, ikb, iks⟩ := hik'
  cases z0
  unfold hF_J4_put hF_J4_put_2
  refine w_pos (gC_at h2) ?_
  refine w_call (Q' := fun _ => setPost V G o N kv vv ps mc es ks l x v p) ?_ (fun r G' c s hq => w_ret hq)
  refine w_xR h2 rfl rfl ?_
  have hlen := (List.getElem?_eq_some_iff.mp hpr).1
  cases er : root with
  | none => have := h3.2.2.2.2.1 er; omega
  | some r =>
    obtain ⟨r1, r2, r3, r4⟩ := h3.2.2.2.1 r er
    refine w_neg (by simp) (w_xR h2 rfl rfl (w_pos rfl (w_call0 (r := some ik) (G := G) rfl ?_)))
    refine w_pos (gok_at iks (by simp)) ?_
    exact set_loop h1 h2 h3 h4 h5 h6 h7 h8 h9 hik hiv hx hv hp hpr _ _ r r1 (by omega) (by omega) (by omega)
theorem tm_size (h : TMx V G o N kv vv ps mc es ks l) : hF_J4_size V G nx o = some (nI l.length, G, 0, 0) := by
  obtain ⟨⟨x0, x1, x8, root, lf, rt, pa, co, lo, hi, h1, h2, h3⟩, h4⟩ := h
  unfold hF_J4_size
  rw [xI_at h2 rfl rfl]
  rfl
theorem tm_has {ik x p : Nat} (hV : 200 ≤ V.2.2.2.2) (h : TMx V G o N kv vv ps mc es ks l) (hik : G ik = some (.inr (26, [.int (nI x)]))) (hx : x < 128) (hp : LowB l x p) :
    ∃ r, hF_J4_containsKey V G nx o (some ik) = some (r, G, 0, 0) ∧ ((r = 1 ∧ ∃ v, l[p]? = some (x, v)) ∨ (r = 0 ∧ ∀ y, l[p]? = some y → ¬ y.1 = x)) := by
  obtain ⟨r, e, q⟩ := getEntry_at (nx := nx) hV h hik hx hp
  obtain ⟨⟨x0, x1, x8, root, lf, rt, pa, co, lo, hi, h1, h2, h3⟩, h4⟩ := h
  unfold hF_J4_containsKey
  rw [if_pos (gC_at h2), e]
  rcases q with ⟨b, v, rfl, q1, q2, q3⟩ | ⟨rfl, q1⟩
  · exact ⟨1, rfl, Or.inl ⟨rfl, v, q3⟩⟩
  · exact ⟨0, rfl, Or.inr ⟨rfl, q1⟩⟩
theorem tm_get {ik x v p : Nat} (hV : 200 ≤ V.2.2.2.2) (h : TMx V G o N kv vv ps mc es ks l) (hik : G ik = some (.inr (26, [.int (nI x)]))) (hx : x < 128) (hp : LowB l x p) (hpr : l[p]? = some (x, v)) :
    ∃ r, hF_J4_get V G nx o (some ik) = some (r, G, 0, 0) ∧ IsInt V G r v := by
  obtain ⟨r, e, q⟩ := getEntry_at (nx := nx) hV h hik hx hp
  obtain ⟨⟨x0, x1, x8, root, lf, rt, pa, co, lo, hi, h1, h2, h3⟩, h4, h5⟩ := h
  unfold hF_J4_get
  rw [if_pos (gC_at h2), e]
  rcases q with ⟨b, v', rfl, q1, q2, q3⟩ | ⟨rfl, q1⟩
  · obtain ⟨k, w, z1, z2, z3, z4, z5⟩ := h4 b q1
    refine ⟨vv b, ?_, ?_⟩
    · show tick 0 0 ((xR G b fl_TreeMap_Entry_value).bind _) = _
      rw [xR_at (r := vv b) (h1 b q1).1 rfl rfl]
      rfl
    · rw [q2, hpr] at z1; cases z1; exact z3
  · exact absurd rfl (q1 _ hpr)
end T

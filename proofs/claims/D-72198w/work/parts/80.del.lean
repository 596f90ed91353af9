/-! PURE 11: successor, first entry, deleteEntry, remove -/
section T
variable {V : HEn} {G : Gh} {o n nx : Nat} {N : Nat → Prop} {lf rt pa : Nat → Option Nat} {co : Nat → Int32} {kv vv : Nat → Option Nat}
variable {x0 x1 root es ks x8 : Option Nat} {sz mc : Int32} {ps lo hi : Nat → Nat} {l : List (Nat × Nat)}
theorem succ_18 (h : TNd V G o N lf rt pa co kv vv) (hs : Shp N n root lf rt pa ps lo hi) : ∀ (m nx b : Nat), N b → hi b - lo b ≤ m → ∃ r, hL_J4_successor_18 V m G nx (some b) = some (some r, G, 0, 0) ∧ N r ∧ ps r = lo b := by
  intro m
  induction m with
  | zero => intro nx b hb hm; have := hs.1 b hb; omega
  | succ m ih =>
    intro nx b hb hm
    rw [hL_J4_successor_18]
    show ∃ r, (xR G b fl_TreeMap_Entry_left).bind _ = _ ∧ _
    rw [xR_at (r := lf b) (h b hb).1 rfl rfl]
    have := hs.1 b hb
    cases e : lf b with
    | none => exact ⟨b, rfl, hb, (hs.2.2.2.2.2.1 b hb e).symm⟩
    | some c =>
      obtain ⟨c1, c2, c3, c4⟩ := hs.2.2.2.2.2.2.1 b c hb e
      obtain ⟨r, q1, q2, q3⟩ := ih nx c c1 (by omega)
      exact ⟨r, q1, q2, by omega⟩
theorem succ_42 (h : TNd V G o N lf rt pa co kv vv) (hs : Shp N n root lf rt pa ps lo hi) {i : Nat} : ∀ (m nx c : Nat), N c → hi c = i → n + 1 ≤ m + (hi c - lo c) → ∃ r, hL_J4_successor_42 V m G nx (pa c) (some c) = some (r, G, 0, 0) ∧ ((∃ b, r = some b ∧ N b ∧ ps b = i) ∨ (r = none ∧ i = n)) := by
  intro m
  induction m with
  | zero => intro nx c hc hi hm; have := hs.1 c hc; omega
  | succ m ih =>
    intro nx c hc hi' hm
    rw [hL_J4_successor_42]
    cases e : pa c with
    | none =>
      have e1 := hs.2.2.2.2.2.2.2.2.2.2 c hc e
      have e2 := (hs.2.2.2.1 c e1).2.2.1
      exact ⟨none, rfl, Or.inr ⟨rfl, by omega⟩⟩
    | some p =>
      obtain ⟨p1, p2⟩ := hs.2.2.2.2.2.2.2.2.2.1 c p hc e
      rw [if_neg (by simp)]
      show ∃ r, (xR G p fl_TreeMap_Entry_right).bind _ = _ ∧ _
      rw [xR_at (r := rt p) (h p p1).1 rfl rfl]
      show ∃ r, (if some c = rt p then (xR G p fl_TreeMap_Entry_parent).bind _ else hB_J4_successor_64 V G nx (some p)) = _ ∧ _
      have bc := hs.1 c hc
      have bp := hs.1 p p1
      by_cases c1 : some c = rt p
      · rw [if_pos c1, xR_at (r := pa p) (h p p1).1 rfl rfl]
        obtain ⟨q1, q2, q3, q4⟩ := hs.2.2.2.2.2.2.2.2.1 p c p1 c1.symm
        exact ih nx p p1 (by omega) (by omega)
      · rw [if_neg c1]
        rcases p2 with w | w
        · obtain ⟨q1, q2, q3, q4⟩ := hs.2.2.2.2.2.2.1 p c p1 w
          exact ⟨some p, rfl, Or.inl ⟨p, rfl, p1, by omega⟩⟩
        · exact absurd w.symm c1
theorem succ_at (h : TNd V G o N lf rt pa co kv vv) (hs : Shp N n root lf rt pa ps lo hi) (hV : n + 1 ≤ V.2.2.2.2) {a : Nat} (ha : N a) : ∃ r, hF_J4_successor V G nx (some a) = some (r, G, 0, 0) ∧ ((∃ b, r = some b ∧ N b ∧ ps b = ps a + 1) ∨ (r = none ∧ ps a + 1 = n)) := by
  unfold hF_J4_successor
  rw [if_neg (by simp)]
  show ∃ r, (xR G a fl_TreeMap_Entry_right).bind _ = _ ∧ _
  rw [xR_at (r := rt a) (h a ha).1 rfl rfl]
  have ba := hs.1 a ha
  cases e : rt a with
  | none =>
    have := hs.2.2.2.2.2.2.2.1 a ha e
    show ∃ r, (xR G a fl_TreeMap_Entry_parent).bind _ = _ ∧ _
    rw [xR_at (r := pa a) (h a ha).1 rfl rfl]
    exact succ_42 h hs _ _ a ha this (by omega)
  | some b =>
    obtain ⟨q1, q2, q3, q4⟩ := hs.2.2.2.2.2.2.2.2.1 a b ha e
    show ∃ r, hL_J4_successor_18 V V.2.2.2.2 G nx (some b) = _ ∧ _
    have bb := hs.1 b q1
    obtain ⟨r, z1, z2, z3⟩ := succ_18 h hs V.2.2.2.2 nx b q1 (by omega)
    exact ⟨some r, z1, Or.inl ⟨r, rfl, z2, by omega⟩⟩
theorem first_9 (h : TNd V G o N lf rt pa co kv vv) (hs : Shp N n root lf rt pa ps lo hi) : ∀ (m nx b : Nat), N b → hi b - lo b ≤ m → ∃ r, hL_J4_getFirstEntry_9 V o m G nx (some b) = some (some r, G, 0, 0) ∧ N r ∧ ps r = lo b := by
  intro m
  induction m with
  | zero => intro nx b hb hm; have := hs.1 b hb; omega
  | succ m ih =>
    intro nx b hb hm
    rw [hL_J4_getFirstEntry_9]
    show ∃ r, (xR G b fl_TreeMap_Entry_left).bind _ = _ ∧ _
    rw [xR_at (r := lf b) (h b hb).1 rfl rfl]
    have := hs.1 b hb
    cases e : lf b with
    | none => exact ⟨b, rfl, hb, (hs.2.2.2.2.2.1 b hb e).symm⟩
    | some c =>
      obtain ⟨c1, c2, c3, c4⟩ := hs.2.2.2.2.2.2.1 b c hb e
      obtain ⟨r, q1, q2, q3⟩ := ih nx c c1 (by omega)
      exact ⟨r, q1, q2, by omega⟩
theorem first_at (h : TNd V G o N lf rt pa co kv vv) (ho : G o = some (tobj x0 x1 root sz mc es ks x8)) (hs : Shp N n root lf rt pa ps lo hi) (hV : n + 1 ≤ V.2.2.2.2) : ∃ r, hF_J4_getFirstEntry V G nx o = some (r, G, 0, 0) ∧ ((∃ b, r = some b ∧ N b ∧ ps b = 0) ∨ (r = none ∧ n = 0)) := by
  unfold hF_J4_getFirstEntry
  rw [xR_at (r := root) ho rfl rfl]
  cases e : root with
  | none => exact ⟨none, rfl, Or.inr ⟨rfl, hs.2.2.2.2.1 e⟩⟩
  | some r =>
    obtain ⟨q1, q2, q3, q4⟩ := hs.2.2.2.1 r e
    show ∃ r', hL_J4_getFirstEntry_9 V o V.2.2.2.2 G nx (some r) = _ ∧ _
    obtain ⟨r', z1, z2, z3⟩ := first_9 h hs V.2.2.2.2 nx r q1 (by omega)
    exact ⟨some r', z1, Or.inl ⟨r', rfl, z2, by omega⟩⟩
/-- a node with at most one child is taken out -/
abbrev delPost (V : HEn) (G : Gh) (o : Nat) (N : Nat → Prop) (n : Nat) (kv vv : Nat → Option Nat) (ps : Nat → Nat) (x0 x1 : Option Nat) (sz mc : Int32) (es ks x8 : Option Nat) (p : Nat) : Unit → Gh → Nat → Nat → Prop := fun _ G' c s => c = 0 ∧ s = 0 ∧ TreeOk V G' o (deN N p) (n - 1) kv vv (deP ps (ps p)) x0 x1 sz mc es ks x8 ∧ ∀ b, ¬ N b → b ≠ o → G' b = G b
theorem TNd.sub {N' : Nat → Prop} (h : TNd V G o N lf rt pa co kv vv) (hN : ∀ a, N' a → N a) : TNd V G o N' lf rt pa co kv vv := fun a ha => h a (hN a ha)
theorem del_57 {p : Nat} (hb : V.1 ≤ o) (hV : n + 2 ≤ V.2.2.2.2) (h : TNd V G o N lf rt pa co kv vv) (ho : G o = some (tobj x0 x1 root sz mc es ks x8)) (hs : Shp N n root lf rt pa ps lo hi) (hp : N p) (h1 : lf p = none ∨ rt p = none) :
    wH (hB_J4_deleteEntry_57 V o G nx (some p)) (delPost V G o N n kv vv ps x0 x1 sz mc es ks x8 p) := by
  have po := (h p hp).2.2.1
  have no : ¬ N o := fun z => (h o z).2.2.1 rfl
  have bp := hs.1 p hp
  -- with the child c
  have K1 : ∀ c, ((lf p = some c ∧ rt p = none) ∨ (rt p = some c ∧ lf p = none)) → wH (hB_J4_deleteEntry_75 V o G nx (some c) (some p)) (delPost V G o N n kv vv ps x0 x1 sz mc es ks x8 p) := by
    intro c hc
    have hsd := hs.del hp hc
    obtain ⟨cN, cpa⟩ : N c ∧ pa c = some p := by
      rcases hc with hc | hc
      · have := hs.2.2.2.2.2.2.1 p c hp hc.1; exact ⟨this.1, this.2.1⟩
      · have := hs.2.2.2.2.2.2.2.2.1 p c hp hc.1; exact ⟨this.1, this.2.1⟩
    have cp : c ≠ p := by
      intro z; subst z
      have := hs.1 c hp
      rcases hc with hc | hc
      · have := hs.2.2.2.2.2.2.1 c c hp hc.1; omega
      · have := hs.2.2.2.2.2.2.2.2.1 c c hp hc.1; omega
    have pq : ∀ q, pa p = some q → N q ∧ q ≠ p := by
      intro q e
      obtain ⟨q1, q2⟩ := hs.2.2.2.2.2.2.2.2.2.1 p q hp e
      refine ⟨q1, ?_⟩
      intro z; subst z
      rcases q2 with w | w
      · have := hs.2.2.2.2.2.2.1 q q q1 w; omega
      · have := hs.2.2.2.2.2.2.2.2.1 q q q1 w; omega
    have pc : ¬ pa p = some c := by
      intro e
      obtain ⟨q1, q2⟩ := hs.2.2.2.2.2.2.2.2.2.1 p c hp e
      have := hs.1 c cN
      rcases hc with hc | hc
      · have := hs.2.2.2.2.2.2.1 p c hp hc.1
        rcases q2 with w | w
        · have := hs.2.2.2.2.2.2.1 c p q1 w; omega
        · have := hs.2.2.2.2.2.2.2.2.1 c p q1 w; omega
      · have := hs.2.2.2.2.2.2.2.2.1 p c hp hc.1
        rcases q2 with w | w
        · have := hs.2.2.2.2.2.2.1 c p q1 w; omega
        · have := hs.2.2.2.2.2.2.2.2.1 c p q1 w; omega
    have T133 : ∀ (G2 : Gh) (lf2 rt2 pa2 : Nat → Option Nat), TNd V G2 o N lf2 rt2 pa2 co kv vv → (∀ a, deN N p a → lf2 a = deL lf pa p (some c) a) → (∀ a, deN N p a → rt2 a = deR lf rt pa p (some c) a) → (∀ a, deN N p a → pa2 a = dePa pa p (some c) a) → G2 o = some (tobj x0 x1 (deT root pa p (some c)) sz mc es ks x8) → (∀ b, ¬ N b → b ≠ o → G2 b = G b) →
        wH (hB_J4_deleteEntry_133 V o G2 nx (some p) (some c)) (delPost V G o N n kv vv ps x0 x1 sz mc es ks x8 p) := by
      intro G2 lf2 rt2 pa2 h2 e1 e2 e3 e4 e5
      unfold hB_J4_deleteEntry_133 hB_J4_deleteEntry_245
      refine w_some (w_tsP h2 hp ?_)
      intro G3 h3 k3
      refine w_tsR h3 hp ?_
      intro G4 h4 k4
      refine w_tsL h4 hp ?_
      intro G5 h5 k5
      have ko : G5 o = some (tobj x0 x1 (deT root pa p (some c)) sz mc es ks x8) := by rw [k5 o (Ne.symm po), k4 o (Ne.symm po), k3 o (Ne.symm po)]; exact e4
      have kf : ∀ b, ¬ N b → b ≠ o → G5 b = G b := by
        intro b hbn hbo
        have : b ≠ p := fun z => hbn (z ▸ hp)
        rw [k5 b this, k4 b this, k3 b this]; exact e5 b hbn hbo
      have h6 : TNd V G5 o (deN N p) (deL lf pa p (some c)) (deR lf rt pa p (some c)) (dePa pa p (some c)) co kv vv := by
        refine (h5.sub (N' := deN N p) (fun a ha => ha.1)).congr (fun a ha => ?_) (fun a ha => ?_) (fun a ha => ?_) (fun a ha => rfl) (fun a ha => rfl) (fun a ha => rfl)
        · rw [up_ne _ _ ha.2]; exact (e1 a ha).symm
        · rw [up_ne _ _ ha.2]; exact (e2 a ha).symm
        · rw [up_ne _ _ ha.2]; exact (e3 a ha).symm
      refine w_tC h5 hp ?_
      refine w_if (fun c1 => ?_) (fun c1 => w_ret ⟨rfl, rfl, ⟨_, _, _, _, _, _, _, h6, ko, hsd⟩, kf⟩)
      have bc := hs.1 c cN
      have n2 : 2 ≤ n := by
        rcases hc with hc | hc
        · have := hs.2.2.2.2.2.2.1 p c hp hc.1; omega
        · have := hs.2.2.2.2.2.2.2.2.1 p c hp hc.1; omega
      refine w_pos (gC_at ko) (w_call0' (fixD_at (K := fun _ => False) hb (by omega) (by omega) h6 ko hsd ⟨cN, cp⟩ (fun p0 z => z.elim)) ?_)
      rintro - G6 ⟨root6, lf6, rt6, pa6, co6, lo6, hi6, h7, ho7, hs7, -, k7⟩
      refine w_ret ⟨rfl, rfl, ⟨_, _, _, _, _, _, _, h7, ho7, hs7⟩, fun b hbn hbo => ?_⟩
      rw [k7 b (fun z => hbn z.1) hbo]; exact kf b hbn hbo
    unfold hB_J4_deleteEntry_75
    refine w_neg (by simp) (w_some (w_tP h hp (w_some (w_tsP h cN ?_))))
    intro G2 h2 k2
    refine w_tP h2 hp ?_
    rw [up_ne _ _ (Ne.symm cp)]
    cases epp : pa p with
    | none =>
      refine w_pos rfl (w_xF (v := va_rf (some c)) ((k2 o (Ne.symm (h c cN).2.2.1)).trans ho) rfl (Nat.le_of_ble_eq_true rfl) hb rfl ?_)
      refine T133 _ _ _ _ (TNd.keep (G' := gset G2 o _) h2 fun a ha => gset_ne _ _ (h a ha).2.2.1) ?_ ?_ ?_ ?_ ?_
      · intro a ha; unfold deL; rw [if_neg (by rw [epp]; simp)]
      · intro a ha; unfold deR; rw [if_neg (by rw [epp]; simp)]
      · intro a ha; unfold dePa va_up; by_cases z : a = c
        · subst z; simp
        · rw [if_neg z, if_neg (by intro w; exact z (Option.some.inj w).symm)]
      · rw [gset_eq]; unfold deT; rw [if_pos epp]; rfl
      · intro b hbn hbo; rw [gset_ne _ _ hbo, k2 b (fun z => hbn (z ▸ cN))]
    | some q =>
      obtain ⟨q1, q2⟩ := pq q epp
      have qo := (h q q1).2.2.1
      have qc : q ≠ c := fun z => pc (by rw [epp, z])
      refine w_neg (by simp) (w_tP h2 hp ?_)
      rw [up_ne _ _ (Ne.symm cp), epp]
      refine w_some (w_tL h2 q1 ?_)
      have kpa : ∀ a, deN N p a → va_up pa c (some q) a = dePa pa p (some c) a := by
        intro a ha; unfold dePa va_up; by_cases z : a = c
        · subst z; simp [epp]
        · rw [if_neg z, if_neg (by intro w; exact z (Option.some.inj w).symm)]
      have kpa' : ∀ a, deN N p a → va_up pa c (pa p) a = dePa pa p (some c) a := by
        intro a ha; rw [epp]; exact kpa a ha
      refine w_if (fun c1 => ?_) (fun c1 => ?_)
      · refine w_tP h2 hp ?_
        rw [up_ne _ _ (Ne.symm cp), epp]
        refine w_some (w_tsL h2 q1 ?_)
        intro G3 h3 k3
        refine T133 _ _ _ _ h3 ?_ ?_ kpa' ?_ ?_
        · intro a ha; grind [deL, va_up]
        · intro a ha; grind [deR, va_up]
        · rw [k3 o (Ne.symm qo), k2 o (Ne.symm (h c cN).2.2.1), ho]; unfold deT; rw [if_neg (by rw [epp]; simp)]
        · intro b hbn hbo; rw [k3 b (fun z => hbn (z ▸ q1)), k2 b (fun z => hbn (z ▸ cN))]
      · refine w_tP h2 hp ?_
        rw [up_ne _ _ (Ne.symm cp), epp]
        refine w_some (w_tsR h2 q1 ?_)
        intro G3 h3 k3
        refine T133 _ _ _ _ h3 ?_ ?_ kpa' ?_ ?_
        · intro a ha; grind [deL, va_up]
        · intro a ha; grind [deR, va_up]
        · rw [k3 o (Ne.symm qo), k2 o (Ne.symm (h c cN).2.2.1), ho]; unfold deT; rw [if_neg (by rw [epp]; simp)]
        · intro b hbn hbo; rw [k3 b (fun z => hbn (z ▸ q1)), k2 b (fun z => hbn (z ▸ cN))]
  -- a leaf
  have K0 : lf p = none → rt p = none → wH (hB_J4_deleteEntry_75 V o G nx none (some p)) (delPost V G o N n kv vv ps x0 x1 sz mc es ks x8 p) := by
    intro el er
    unfold hB_J4_deleteEntry_75
    refine w_pos rfl (w_some (w_tP h hp ?_))
    cases epp : pa p with
    | none =>
      have hsd := hs.del hp (cc := none) (Or.inl ⟨el, er⟩)
      refine w_pos rfl (w_xF (v := va_rf none) ho rfl (Nat.le_of_ble_eq_true rfl) hb rfl ?_)
      unfold hB_J4_deleteEntry_245
      refine w_ret ⟨rfl, rfl, ⟨_, _, _, _, co, _, _, ?_, ?_, hsd⟩, fun b hbn hbo => gset_ne _ _ hbo⟩
      · refine TNd.congr (TNd.keep (G' := gset G o _) (h.sub (fun a ha => ha.1)) fun a ha => gset_ne _ _ (h a ha.1).2.2.1) (fun a ha => ?_) (fun a ha => ?_) (fun a ha => ?_) (fun a ha => rfl) (fun a ha => rfl) (fun a ha => rfl)
        · unfold deL; rw [if_neg (by rw [epp]; simp)]
        · unfold deR; rw [if_neg (by rw [epp]; simp)]
        · unfold dePa; rw [if_neg (by simp)]
      · rw [gset_eq]; unfold deT; rw [if_pos epp]; rfl
    | some q0 =>
      refine w_neg (by simp) (w_tC h hp ?_)
      have T192 : ∀ (G2 : Gh) (nx : Nat) (root2 : Option Nat) (lf2 rt2 pa2 : Nat → Option Nat) (co2 : Nat → Int32) (lo2 hi2 : Nat → Nat), TNd V G2 o N lf2 rt2 pa2 co2 kv vv → G2 o = some (tobj x0 x1 root2 sz mc es ks x8) → Shp N n root2 lf2 rt2 pa2 ps lo2 hi2 → lf2 p = none → rt2 p = none → 2 ≤ n → (∀ b, ¬ N b → b ≠ o → G2 b = G b) →
          wH (hB_J4_deleteEntry_192 V o G2 nx (some p)) (delPost V G o N n kv vv ps x0 x1 sz mc es ks x8 p) := by
        intro G2 nx root2 lf2 rt2 pa2 co2 lo2 hi2 h2 ho2 hs2 e1 e2 n2 k2
        have hsd := hs2.del hp (cc := none) (Or.inl ⟨e1, e2⟩)
        unfold hB_J4_deleteEntry_192
        refine w_some (w_tP h2 hp ?_)
        cases ep2 : pa2 p with
        | none =>
          exfalso
          have w1 := hs2.2.2.2.2.2.2.2.2.2.2 p hp ep2
          have w2 := hs2.2.2.2.1 p w1
          have w3 := hs2.2.2.2.2.2.1 p hp e1
          have w4 := hs2.2.2.2.2.2.2.2.1 p hp e2
          omega
        | some q =>
          obtain ⟨q1, q2⟩ := hs2.2.2.2.2.2.2.2.2.2.1 p q hp ep2
          have qo := (h2 q q1).2.2.1
          have qp : q ≠ p := by
            intro z; subst z
            rcases q2 with w | w
            · rw [e1] at w; cases w
            · rw [e2] at w; cases w
          have T240 : ∀ (G3 : Gh) (lf3 rt3 : Nat → Option Nat), TNd V G3 o N lf3 rt3 pa2 co2 kv vv → (∀ a, deN N p a → lf3 a = deL lf2 pa2 p none a) → (∀ a, deN N p a → rt3 a = deR lf2 rt2 pa2 p none a) → G3 o = some (tobj x0 x1 root2 sz mc es ks x8) → (∀ b, ¬ N b → b ≠ o → G3 b = G b) → wH (hB_J4_deleteEntry_240 V o G3 nx (some p)) (delPost V G o N n kv vv ps x0 x1 sz mc es ks x8 p) := by
            intro G3 lf3 rt3 h3 f1 f2 f3 f4
            unfold hB_J4_deleteEntry_240 hB_J4_deleteEntry_245
            refine w_some (w_tsP h3 hp ?_)
            intro G4 h4 k4
            refine w_ret ⟨rfl, rfl, ⟨_, _, _, _, co2, _, _, ?_, ?_, hsd⟩, fun b hbn hbo => ?_⟩
            · refine (h4.sub (N' := deN N p) (fun a ha => ha.1)).congr (fun a ha => (f1 a ha).symm) (fun a ha => (f2 a ha).symm) (fun a ha => ?_) (fun a ha => rfl) (fun a ha => rfl) (fun a ha => rfl)
              rw [up_ne _ _ ha.2]; unfold dePa; rw [if_neg (by simp)]
            · rw [k4 o (Ne.symm po), f3]; unfold deT; rw [if_neg (by rw [ep2]; simp)]
            · rw [k4 b (fun z => hbn (z ▸ hp))]; exact f4 b hbn hbo
          refine w_neg (by simp) (w_tP h2 hp ?_)
          rw [ep2]
          refine w_some (w_tL h2 q1 (w_if (fun c1 => ?_) (fun c1 => ?_)))
          · refine w_tP h2 hp ?_
            rw [ep2]
            refine w_some (w_tsL h2 q1 ?_)
            intro G3 h3 k3
            refine T240 _ _ _ h3 ?_ ?_ (by rw [k3 o (Ne.symm qo)]; exact ho2) (fun b hbn hbo => by rw [k3 b (fun z => hbn (z ▸ q1))]; exact k2 b hbn hbo)
            · intro a ha; grind [deL, va_up]
            · intro a ha; grind [deR, va_up]
          · have c2 : rt2 q = some p := by
              rcases q2 with w | w
              · exact absurd w.symm c1
              · exact w
            refine w_tP h2 hp ?_
            rw [ep2]
            refine w_some (w_tR h2 q1 (w_pos c2.symm ?_))
            refine w_tP h2 hp ?_
            rw [ep2]
            refine w_some (w_tsR h2 q1 ?_)
            intro G3 h3 k3
            refine T240 _ _ _ h3 ?_ ?_ (by rw [k3 o (Ne.symm qo)]; exact ho2) (fun b hbn hbo => by rw [k3 b (fun z => hbn (z ▸ q1))]; exact k2 b hbn hbo)
            · intro a ha; grind [deL, va_up]
            · intro a ha; grind [deR, va_up]
      have n2 : 2 ≤ n := by
        obtain ⟨q1, q2⟩ := hs.2.2.2.2.2.2.2.2.2.1 p q0 hp epp
        have := hs.1 q0 q1
        rcases q2 with w | w
        · have := hs.2.2.2.2.2.2.1 q0 p q1 w; omega
        · have := hs.2.2.2.2.2.2.2.2.1 q0 p q1 w; omega
      refine w_if (fun c1 => ?_) (fun c1 => T192 _ _ _ _ _ _ _ _ _ h ho hs el er n2 (fun _ _ _ => rfl))
      refine w_pos (gC_at ho) (w_call0' (fixD_at (K := fun a => a = p) hb (by omega) hV h ho hs hp (fun p0 z => by subst z; exact ⟨hp, el, er, bp.1, bp.2.1⟩)) ?_)
      rintro - G2 ⟨root2, lf2, rt2, pa2, co2, lo2, hi2, h2, ho2, hs2, hK2, k2⟩
      exact T192 _ _ _ _ _ _ _ _ _ h2 ho2 hs2 (hK2 p rfl).1 (hK2 p rfl).2 n2 k2
  unfold hB_J4_deleteEntry_57
  refine w_some (w_tL h hp ?_)
  cases el : lf p with
  | none =>
    refine w_pos rfl (w_tR h hp ?_)
    cases er : rt p with
    | none => exact K0 el er
    | some c => exact K1 c (Or.inr ⟨er, el⟩)
  | some c =>
    refine w_neg (by simp) (w_tL h hp ?_)
    rw [el]
    refine K1 c (Or.inl ⟨el, ?_⟩)
    rcases h1 with w | w
    · rw [el] at w; cases w
    · exact w
theorem srt_del {p : Nat} (h : Srt l) : Srt (l.eraseIdx p) := by
  intro i j y z hij hy hz
  rw [List.getElem?_eraseIdx] at hy hz
  by_cases c1 : i < p
  · rw [if_pos c1] at hy
    by_cases c2 : j < p
    · rw [if_pos c2] at hz; exact h i j _ _ hij hy hz
    · rw [if_neg c2] at hz; exact h i (j + 1) _ _ (by omega) hy hz
  · rw [if_neg c1] at hy
    have c2 : ¬ j < p := by omega
    rw [if_neg c2] at hz
    exact h (i + 1) (j + 1) _ _ (by omega) hy hz
theorem hold_del {G' : Gh} {b : Nat} (h : Hold V G N kv vv ps l) (hs : Shp N n root lf rt pa ps lo hi) (hb : N b) (hk : ∀ a, a < V.1 → G' a = G a) : Hold V G' (deN N b) kv vv (deP ps (ps b)) (l.eraseIdx (ps b)) := by
  intro a ha
  obtain ⟨k, v, q1, q2, q3, q4, q5⟩ := h a ha.1
  refine ⟨k, v, ?_, q2.keep hk, q3.keep hk, q4, q5⟩
  have : ps a ≠ ps b := fun z => ha.2 (hs.2.1 a b ha.1 hb z)
  rw [List.getElem?_eraseIdx]
  unfold deP
  by_cases c : ps b < ps a
  · rw [if_pos c, if_neg (by omega), Nat.sub_add_cancel (by omega)]; exact q1
  · rw [if_neg c, if_pos (by omega)]; exact q1
abbrev remPost (V : HEn) (G : Gh) (o : Nat) (N : Nat → Prop) (mc : Int32) (es ks : Option Nat) (l : List (Nat × Nat)) (p : Nat) : Gh → Nat → Nat → Prop := fun G' c s => c = 0 ∧ s = 0 ∧ (∃ N' kv' vv' ps', (∀ a, N' a → N a) ∧ TMx V G' o N' kv' vv' ps' (mc + 1) es ks (l.eraseIdx p)) ∧ ∀ b, ¬ N b → b ≠ o → G' b = G b
theorem deleteEntry_at {b : Nat} (hV : 200 ≤ V.2.2.2.2) (h : TMx V G o N kv vv ps mc es ks l) (hb : N b) : wH (hF_J4_deleteEntry V G nx o (some b)) (fun _ => remPost V G o N mc es ks l (ps b)) := by
  obtain ⟨⟨x0, x1, x8, root, lf, rt, pa, co, lo, hi, h1, h2, h3⟩, h4, h5, h6, h7, h8, h9⟩ := h
  have bo := (h1 b hb).2.2.1
  have bb := h3.1 b hb
  have no : ¬ N o := fun z => (h1 o z).2.2.1 rfl
  unfold hF_J4_deleteEntry
  refine w_xI h2 rfl rfl (w_xF h2 rfl (Nat.le_of_ble_eq_true rfl) h6 rfl (w_xI (gset_eq _ _ _) rfl rfl (w_xF (gset_eq _ _ _) rfl (Nat.le_of_ble_eq_true rfl) h6 rfl (w_some ?_))))
  generalize hG1 : gset (gset G o _) o _ = G1
  have k1 : ∀ a, a ≠ o → G1 a = G a := fun a ha => by rw [← hG1, gset_ne _ _ ha, gset_ne _ _ ha]
  have ho1 : G1 o = some (tobj x0 x1 root (nI l.length - 1) (mc + 1) es ks x8) := by rw [← hG1, gset_eq]; rfl
  have h1' : TNd V G1 o N lf rt pa co kv vv := h1.keep (fun a ha => k1 a (h1 a ha).2.2.1)
  clear hG1
  have fin : ∀ (G2 : Gh) (nx c : Nat) (kv2 vv2 : Nat → Option Nat), TNd V G2 o N lf rt pa co kv2 vv2 → G2 o = some (tobj x0 x1 root (nI l.length - 1) (mc + 1) es ks x8) → (∀ a, ¬ N a → a ≠ o → G2 a = G a) → N c → (lf c = none ∨ rt c = none) → Hold V G2 (deN N c) kv2 vv2 (deP ps (ps c)) (l.eraseIdx (ps b)) →
      wH (hB_J4_deleteEntry_57 V o G2 nx (some c)) (fun _ => remPost V G o N mc es ks l (ps b)) := by
    intro G2 nx c kv2 vv2 e1 e2 e3 e4 e5 e6
    refine w_mono (del_57 h6 (by omega) e1 e2 h3 e4 e5) ?_
    rintro - G3 c3 s3 ⟨rfl, rfl, ⟨root3, lf3, rt3, pa3, co3, lo3, hi3, t1, t2, t3⟩, k3⟩
    have len : (l.eraseIdx (ps b)).length = l.length - 1 := List.length_eraseIdx_of_lt (by omega)
    have kk : ∀ a, ¬ N a → a ≠ o → G3 a = G a := fun a ha hao => (k3 a ha hao).trans (e3 a ha hao)
    have kb : ∀ a, a < V.1 → G3 a = G2 a := fun a ha => k3 a (fun z => by have := (h1 a z).2.1; omega) (by omega)
    have nl : nI l.length - 1 = nI (l.length - 1) := nI_sub (a := l.length) (b := 1) (by omega)
    refine ⟨rfl, rfl, ⟨deN N c, kv2, vv2, deP ps (ps c), fun a ha => ha.1, ⟨x0, x1, x8, root3, lf3, rt3, pa3, co3, lo3, hi3, t1, ?_, ?_⟩, ?_, srt_del h5, h6, by omega, ?_, ?_⟩, kk⟩
    · rw [t2, len, nl]
    · rw [len]; exact t3
    · intro a ha
      obtain ⟨k, v, q1, q2, q3, q4, q5⟩ := e6 a ha
      exact ⟨k, v, q1, q2.keep kb, q3.keep kb, q4, q5⟩
    · intro e he
      have w := h8 e he
      have w2 : ¬ N e := fun z => by have := (h1 e z).1; rw [w.1] at this; cases this
      have w3 : e ≠ o := fun z => by subst z; rw [h2] at w; cases w.1
      rw [kk e w2 w3]; exact w
    · intro e he
      have w := h9 e he
      have w2 : ¬ N e := fun z => by have := (h1 e z).1; rw [w.1] at this; cases this
      have w3 : e ≠ o := fun z => by subst z; rw [h2] at w; cases w.1
      rw [kk e w2 w3]; exact w
  have hone : (lf b = none ∨ rt b = none) → wH (hB_J4_deleteEntry_57 V o G1 nx (some b)) (fun _ => remPost V G o N mc es ks l (ps b)) := fun hc =>
    fin G1 nx b kv vv h1' ho1 (fun a ha hao => k1 a hao) hb hc (hold_del h4 h3 hb (fun a ha => k1 a (by omega)))
  refine w_tL h1' hb ?_
  cases el : lf b with
  | none => exact w_pos rfl (hone (Or.inl el))
  | some cl =>
    refine w_neg (by simp) (w_tR h1' hb ?_)
    cases er : rt b with
    | none => exact w_pos rfl (hone (Or.inr er))
    | some cr =>
      refine w_neg (by simp) ?_
      obtain ⟨r, q1, q2⟩ := succ_at (nx := nx) h1' h3 (by omega) hb
      refine w_call0 q1 ?_
      rcases q2 with ⟨s, rfl, sN, sp⟩ | ⟨rfl, sp⟩
      · have so := (h1 s sN).2.2.1
        have sb : s ≠ b := by intro z; subst z; omega
        refine w_some (w_tK h1' sN (w_tsK h1' hb ?_))
        intro G2 t2 k2
        refine w_tV t2 sN (w_tsV t2 hb ?_)
        intro G3 t3 k3
        refine fin G3 _ s _ _ t3 ?_ ?_ sN ?_ ?_
        · rw [k3 o (Ne.symm bo), k2 o (Ne.symm bo)]; exact ho1
        · intro a ha hao
          have : a ≠ b := fun z => ha (z ▸ hb)
          rw [k3 a this, k2 a this, k1 a hao]
        · refine Or.inl ?_
          cases els : lf s with
          | none => rfl
          | some c =>
            exfalso
            obtain ⟨z1, z2, z3, z4⟩ := h3.2.2.2.2.2.2.2.2.1 b cr hb er
            obtain ⟨y1, y2, y3, y4⟩ := h3.2.2.2.2.2.2.1 s c sN els
            have bs := h3.1 s sN
            have bc := h3.1 c y1
            -- the places of c lie between b and s
            have : lo s = ps s := by
              have h18 := succ_18 h1' h3 (hi cr - lo cr) nx cr z1 (Nat.le_refl _)
              obtain ⟨r, r1, r2, r3⟩ := h18
              have : r = s := h3.2.1 r s r2 sN (by omega)
              subst this
              have key : ∀ m c, N c → hi c - lo c ≤ m → ∃ t, N t ∧ ps t = lo c ∧ lf t = none := by
                intro m
                induction m with
                | zero => intro c hc hm; have := h3.1 c hc; omega
                | succ m ih =>
                  intro c hc hm
                  cases e : lf c with
                  | none => exact ⟨c, hc, (h3.2.2.2.2.2.1 c hc e).symm, e⟩
                  | some d =>
                    obtain ⟨d1, d2, d3, d4⟩ := h3.2.2.2.2.2.2.1 c d hc e
                    have := h3.1 c hc
                    obtain ⟨t, t1, t2, t3⟩ := ih d d1 (by omega)
                    exact ⟨t, t1, by omega, t3⟩
              obtain ⟨t, u1, u2, u3⟩ := key _ cr z1 (Nat.le_refl _)
              have : t = r := h3.2.1 t r u1 r2 (by omega)
              subst this
              rw [els] at u3; cases u3
            omega
        · -- what the nodes hold now
          have kb : ∀ a, a < V.1 → G3 a = G a := fun a ha => by
            have := (h1 b hb).2.1
            rw [k3 a (by omega), k2 a (by omega), k1 a (by omega)]
          intro a ha
          have as : ps a ≠ ps s := fun z => ha.2 (h3.2.1 a s ha.1 sN z)
          by_cases ab : a = b
          · subst ab
            obtain ⟨k, v, w1, w2, w3, w4, w5⟩ := h4 s sN
            refine ⟨k, v, ?_, by rw [up_eq]; exact w2.keep kb, by rw [up_eq]; exact w3.keep kb, w4, w5⟩
            have : deP ps (ps s) a = ps a := by unfold deP; rw [if_neg (by omega)]
            rw [List.getElem?_eraseIdx, this, if_neg (Nat.lt_irrefl _), ← sp]; exact w1
          · obtain ⟨k, v, w1, w2, w3, w4, w5⟩ := h4 a ha.1
            refine ⟨k, v, ?_, by rw [up_ne _ _ ab]; exact w2.keep kb, by rw [up_ne _ _ ab]; exact w3.keep kb, w4, w5⟩
            have abp : ps a ≠ ps b := fun z => ab (h3.2.1 a b ha.1 hb z)
            rw [List.getElem?_eraseIdx]
            unfold deP
            by_cases c : ps s < ps a
            · rw [if_pos c, if_neg (by omega), Nat.sub_add_cancel (by omega)]; exact w1
            · rw [if_neg c, if_pos (by omega)]; exact w1
      · exfalso
        obtain ⟨z1, z2, z3, z4⟩ := h3.2.2.2.2.2.2.2.2.1 b cr hb er
        have := h3.1 cr z1
        omega
theorem tm_remove {ik x v p : Nat} (hV : 200 ≤ V.2.2.2.2) (h : TMx V G o N kv vv ps mc es ks l) (hik : G ik = some (.inr (26, [.int (nI x)]))) (hx : x < 128) (hp : LowB l x p) (hpr : l[p]? = some (x, v)) :
    wH (hF_J4_remove V G nx o (some ik)) (fun _ => remPost V G o N mc es ks l p) := by
  obtain ⟨r, e, q⟩ := getEntry_at (nx := nx) hV h hik hx hp
  have h0 := h
  obtain ⟨⟨x0, x1, x8, root, lf, rt, pa, co, lo, hi, h1, h2, h3⟩, h4, h5⟩ := h
  unfold hF_J4_remove
  refine w_pos (gC_at h2) (w_call0 e ?_)
  rcases q with ⟨b, v', rfl, q1, q2, q3⟩ | ⟨rfl, q1⟩
  · refine w_neg (by simp) (w_some (w_tV h1 q1 (w_pos (gC_at h2) ?_)))
    refine w_call (deleteEntry_at hV h0 q1) ?_
    intro r G' c s hq
    rw [q2] at hq
    exact w_ret hq
  · exact absurd rfl (q1 _ hpr)
end T

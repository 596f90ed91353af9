/-! PURE 35: HashMap.TreeNode.putTreeVal of a text that isn't there -/
theorem up_up {α : Type} (f : Nat → α) (k : Nat) (u v : α) : va_up (va_up f k u) k v = va_up f k v := by
  funext x
  by_cases c : x = k
  · subst c; rw [up_eq, up_eq]
  · rw [up_ne _ _ c, up_ne _ _ c, up_ne _ _ c]
section U
variable {V : HEn} {n : Nat} {N : Nat → Prop} {D : Nat → Int32 × Option Nat × Option Nat} {nxt pv lf rt pa : Nat → Option Nat} {rd : Nat → Int32} {ko kd : Nat → Nat} {ks : Nat → List Nat} {ps lo hi : Nat → Nat} {tb : Nat → Option Nat}
theorem UNd.congrD {G : Gh} {D' : Nat → Int32 × Option Nat × Option Nat} {nxt' pv' : Nat → Option Nat} (h : UNd V G N D nxt pv lf rt pa rd) (h1 : ∀ a, N a → D' a = D a) (h2 : ∀ a, N a → nxt' a = nxt a) (h3 : ∀ a, N a → pv' a = pv a) : UNd V G N D' nxt' pv' lf rt pa rd := by
  intro a ha
  rw [h1 a ha, h2 a ha, h3 a ha]
  exact h a ha
abbrev PtQ (V : HEn) (G : Gh) (N : Nat → Prop) (n : Nat) (D : Nat → Int32 × Option Nat × Option Nat) (ks : Nat → List Nat) (td m i x : Nat) (tb : Nat → Option Nat) (d : Int32 × Option Nat × Option Nat) (s : List Nat) : Option Nat → Gh → Nat → Nat → Prop := fun r G' c s' => r = none ∧ c = 1 ∧ s' = 11 ∧ (∃ r, inN N x r ∧ TB V G' (inN N x) (n + 1) (va_up D x d) (va_up ks x s) r ∧ G' td = some (.inl (V.2.1 4, m, .inr (.inr (.inr (.inr (va_up tb i (some r)))))))) ∧ ∀ b, ¬ inN N x b → b ≠ td → G' b = G b
theorem ptv_loop {G : Gh} {o o9 td m i x g r0 ik id : Nat} {v : Option Nat} {s : List Nat} {st : Prop} {l7 : Int32} (hV : 1200 ≤ V.2.2.2.2) (hn : n < 298) (h : UNd V G N D nxt pv lf rt pa rd) (hs : Shp N n (some r0) lf rt pa ps lo hi) (ht : TK V G N D ko kd ks) (hS : Srd N ks ps) (hcl : Cl N nxt pv) (hnr : nxt r0 ≠ none) (hk : Str V G ik id s st) (hx : ¬ N x) (hb : V.1 ≤ x) (ho : gC G o 19 = true) (hg : ∀ a, N a → ps a < n → (ps a < g ↔ kLt (ks a) s)) (hab : ∀ a, N a → ks a ≠ s)
    (hm : pw m) (htd : G td = some (.inl (V.2.1 4, m, .inr (.inr (.inr (.inr tb)))))) (hbt : V.1 ≤ td) (hNt : ¬ N td) (hxt : x ≠ td) (hi0 : tb i = some r0) (hNi : ∀ a, N a → ix m (D a).1 = i) (hix : ix m (spr (hsh s)) = i) :
    ∀ (k fu p : Nat) (l6 : Option Nat), N p → hi p - lo p ≤ k → k + 1 ≤ fu → lo p ≤ g → g ≤ hi p → (l6 = none ∨ l6 = some (V.2.2.2.1 21)) → wH (hL_J42_putTreeVal_27 V o9 fu G x (some o) (some td) (spr (hsh s)) (some ik) v l6 l7 (some r0) (some p)) (PtQ V G N n D ks td m i x tb (spr (hsh s), some ik, v) s) := by
  have hs0 := hs
  obtain ⟨h1, h2, h3, h4, h5, h6, h7, h8, h9, h10, h11⟩ := hs0
  obtain ⟨r1, r2, r3, r4⟩ := h4 r0 rfl
  intro k
  induction k with
  | zero =>
    intro fu p l6 hp hk0
    have := h1 p hp
    omega
  | succ k ih =>
    intro fu p l6 hp hk0 hm0 hl hh hl6
    obtain ⟨fu, rfl⟩ := Nat.exists_eq_succ_of_ne_zero (show fu ≠ 0 by omega)
    obtain ⟨t1, t2, t3⟩ := ht p hp
    have b0 := h1 p hp
    have gp := hg p hp (by omega)
    have px : p ≠ x := fun z => hx (z ▸ hp)
    -- when the leaf hangs there
    have leaf : ∀ (G1 : Gh) (lf1 rt1 : Nat → Option Nat), UNd V G1 (inN N x) (va_up D x (spr (hsh s), some ik, v)) (va_up nxt x (nxt p)) (va_up pv x none) lf1 rt1 (va_up pa x none) (va_up rd x 0) → (∃ lo' hi', Shp (inN N x) (n + 1) (some r0) lf1 rt1 (va_up pa x (some p)) (inP ps x g) lo' hi') → (∀ b, ¬ inN N x b → G1 b = G b) → wH (hB_J42_putTreeVal_263 V o9 G1 (x + 1) (some td) (some r0) (some p) (nxt p) (some x)) (fun r G' c s' => PtQ V G N n D ks td m i x tb (spr (hsh s), some ik, v) s r G' (1 + c) (11 + s')) := by
      intro G1 lf1 rt1 u1 u2 u3
      obtain ⟨lo', hi', u2⟩ := u2
      unfold hB_J42_putTreeVal_263
      refine w_some (w_usN u1 (Or.inl hp) ?_)
      intro G2 v1 w1
      refine w_some (w_usv v1 (Or.inr rfl) ?_)
      intro G3 v2 w2
      refine w_usP v2 (Or.inr rfl) ?_
      intro G4 v3 w3
      rw [up_up, up_up] at v3
      have k4 : ∀ b, ¬ inN N x b → G4 b = G b := fun b hb => by rw [w3 b (fun z => hb (Or.inr z)), w2 b (fun z => hb (Or.inr z)), w1 b (fun z => hb (Or.inl (z ▸ hp)))]; exact u3 b hb
      have fin : ∀ (G5 : Gh) (pv5 : Nat → Option Nat), UNd V G5 (inN N x) (va_up D x (spr (hsh s), some ik, v)) (va_up (va_up nxt x (nxt p)) p (some x)) pv5 lf1 rt1 (va_up pa x (some p)) (va_up rd x 0) → (∀ a, inN N x a → ∀ b, pv5 a = some b → inN N x b) → (∀ b, ¬ inN N x b → G5 b = G b) → wH (hB_J42_putTreeVal_298 V o9 G5 (x + 1) (some td) (some r0) (some x)) (fun r G' c s' => PtQ V G N n D ks td m i x tb (spr (hsh s), some ik, v) s r G' (1 + c) (11 + s')) := by
        intro G5 pv5 y1 y2 y3
        unfold hB_J42_putTreeVal_298
        refine w_call0' (P := fun q G' => (∃ lf' rt' pa' rd' lo' hi', UNd V G' (inN N x) (va_up D x (spr (hsh s), some ik, v)) (va_up (va_up nxt x (nxt p)) p (some x)) pv5 lf' rt' pa' rd' ∧ Shp (inN N x) (n + 1) q lf' rt' pa' (inP ps x g) lo' hi') ∧ ∀ b, ¬ inN N x b → G' b = G5 b) (bal_at (by omega) (by omega) y1 u2 (Or.inr rfl)) ?_
        rintro q G6 ⟨⟨lf', rt', pa', rd', lo2, hi2, z1, z2⟩, z3⟩
        obtain ⟨q', rfl⟩ : ∃ r1, q = some r1 := by
          cases q with
          | none => have := z2.2.2.2.2.1 rfl; omega
          | some r1 => exact ⟨r1, rfl⟩
        have qN := (z2.2.2.2.1 q' rfl).1
        have Dq : ∀ a, inN N x a → ix m (va_up D x (spr (hsh s), some ik, v) a).1 = i := by
          intro a ha
          by_cases ca : a = x
          · subst ca; rw [up_eq]; exact hix
          · rw [up_ne _ _ ca]
            rcases ha with ha | ha
            · exact hNi a ha
            · exact absurd ha ca
        have nTd : ¬ inN N x td := by rintro (z | z); exact hNt z; exact hxt z.symm
        have r0x : r0 ≠ x := fun z => hx (z ▸ r1)
        have hcl2 : Cl (inN N x) (va_up (va_up nxt x (nxt p)) p (some x)) pv5 := by
          intro a ha
          refine ⟨fun b hb => ?_, y2 a ha⟩
          by_cases ca : a = p
          · subst ca; rw [up_eq] at hb; cases hb; exact Or.inr rfl
          · rw [up_ne _ _ ca] at hb
            by_cases cx : a = x
            · subst cx; rw [up_eq] at hb; exact Or.inl ((hcl p hp).1 b hb)
            · rw [up_ne _ _ cx] at hb
              rcases ha with ha | ha
              · exact Or.inl ((hcl a ha).1 b hb)
              · exact absurd ha cx
        refine w_call0' (P := fun _ G' => (∃ nxt' pv', UNd V G' (inN N x) (va_up D x (spr (hsh s), some ik, v)) nxt' pv' lf' rt' pa' rd' ∧ Cl (inN N x) nxt' pv' ∧ nxt' q' ≠ none) ∧ G' td = some (.inl (V.2.1 4, m, .inr (.inr (.inr (.inr (va_up tb (ix m (va_up D x (spr (hsh s), some ik, v) q').1) (some q'))))))) ∧ ∀ b, ¬ inN N x b → b ≠ td → G' b = G6 b) (mrf_at (f := r0) z1 hcl2 hm (by rw [z3 td nTd, y3 td nTd]; exact htd) hbt qN (Or.inl r1) (by rw [Dq q' qN]; exact hi0) nTd ?_) ?_
        · by_cases c0 : r0 = p
          · rw [c0, up_eq]; simp
          · rw [up_ne _ _ c0, up_ne _ _ r0x]; exact hnr
        · rintro - G7 ⟨⟨nxt', pv', e1, e2, e3⟩, e4, e5⟩
          rw [Dq q' qN] at e4
          refine w_ret ⟨rfl, rfl, rfl, ⟨q', qN, ⟨_, _, _, _, _, _, _, _, _, e1, z2, ?_, e2, e3⟩, e4⟩, fun b b1 b2 => by rw [e5 b b1 b2, z3 b b1]; exact y3 b b1⟩
          exact srtK_ins (fun a ha => by have := h1 a ha; omega) hx hS hg hab
      cases ex : nxt p with
      | none =>
        rw [ex] at v3 fin
        refine w_pos rfl (fin G4 _ v3 (fun a ha b hb => ?_) k4)
        by_cases ca : a = x
        · subst ca; rw [up_eq] at hb; cases hb; exact Or.inl hp
        · rw [up_ne _ _ ca] at hb
          rcases ha with ha | ha
          · exact Or.inl ((hcl a ha).2 b hb)
          · exact absurd ha ca
      | some y =>
        have yN := (hcl p hp).1 y ex
        rw [ex] at v3 fin
        refine w_neg (by simp) (w_pos (gok_at (v3 y (Or.inl yN)).1 (by simp)) (w_some (w_usv v3 (Or.inl yN) ?_)))
        intro G5 v4 w4
        refine fin G5 _ v4 (fun a ha b hb => ?_) (fun b hb => by rw [w4 b (fun z => hb (Or.inl (z ▸ yN)))]; exact k4 b hb)
        by_cases cy : a = y
        · subst cy; rw [up_eq] at hb; cases hb; exact Or.inr rfl
        · rw [up_ne _ _ cy] at hb
          by_cases ca : a = x
          · subst ca; rw [up_eq] at hb; cases hb; exact Or.inl hp
          · rw [up_ne _ _ ca] at hb
            rcases ha with ha | ha
            · exact Or.inl ((hcl a ha).2 b hb)
            · exact absurd ha ca
    -- the new node
    have make : ∀ {f : Option Nat → Gh → Nat → HO (Option Nat)}, (∀ G1, G1 x = some (tcell (spr (hsh s), some ik, v) (nxt p) none none none none 0) → (∀ b, b ≠ x → G1 b = G b) → wH (f (some x) G1 1) (fun r G' c s' => PtQ V G N n D ks td m i x tb (spr (hsh s), some ik, v) s r G' (1 + c) (11 + s'))) → wH (cB (hD_J42_putTreeVal_236 V G x o (spr (hsh s)) (some ik) v (nxt p)) f) (PtQ V G N n D ks td m i x tb (spr (hsh s), some ik, v) s) := by
      intro f kk
      unfold hD_J42_putTreeVal_236
      rw [if_pos ho]
      refine w_call (newT_at hb) ?_
      rintro r G1 c s' ⟨rfl, rfl, rfl, e1, e2⟩
      exact kk G1 e1 e2
    have added : ∀ G1, G1 x = some (tcell (spr (hsh s), some ik, v) (nxt p) none none none none 0) → (∀ b, b ≠ x → G1 b = G b) → UNd V G1 (inN N x) (va_up D x (spr (hsh s), some ik, v)) (va_up nxt x (nxt p)) (va_up pv x none) (va_up lf x none) (va_up rt x none) (va_up pa x none) (va_up rd x 0) := by
      intro G1 e1 e2
      have u0 := (h.keep (fun a ha => e2 a (fun z => hx (z ▸ ha)))).congrD (D' := va_up D x (spr (hsh s), some ik, v)) (nxt' := va_up nxt x (nxt p)) (pv' := va_up pv x none) (fun a ha => up_ne _ _ (fun z => hx (z ▸ ha))) (fun a ha => up_ne _ _ (fun z => hx (z ▸ ha))) (fun a ha => up_ne _ _ (fun z => hx (z ▸ ha)))
      refine u0.add hx ?_ hb
      rw [up_eq, up_eq, up_eq]; exact e1
    have goR : kLt (ks p) s → ∀ (l6 : Option Nat) (dr : Int32), 0 < dr → (l6 = none ∨ l6 = some (V.2.2.2.1 21)) → wH (hB_J42_putTreeVal_193 V o9 (hL_J42_putTreeVal_27 V o9 fu) G x (some o) (some td) (spr (hsh s)) (some ik) v l6 l7 (some r0) (some p) dr) (PtQ V G N n D ks td m i x tb (spr (hsh s), some ik, v) s) := by
      intro hkk l6 dr hdr hl6
      have := gp.mpr hkk
      unfold hB_J42_putTreeVal_193 hB_J42_putTreeVal_215
      refine w_pos hdr (w_some (w_uR h hp ?_))
      cases e : rt p with
      | none =>
        have e8 := h8 p hp e
        have eg : g = ps p + 1 := by omega
        refine w_pos rfl (w_some (w_uN h hp (w_some (make ?_))))
        intro G1 e1 e2
        refine w_pos hdr (w_usR (added G1 e1 e2) (Or.inl hp) ?_)
        intro G2 t2 k2
        refine leaf G2 _ _ t2 ⟨_, _, by rw [eg]; exact hs.insR hp e hx (leafR (g := g) hs hp e)⟩ (fun b hb => ?_)
        rw [k2 b (fun z => hb (Or.inl (z ▸ hp))), e2 b (fun z => hb (Or.inr z))]
      | some q =>
        obtain ⟨q1, q2, q3, q4⟩ := h9 p q hp e
        exact w_neg (by simp) (ih fu q l6 q1 (by omega) (by omega) (by omega) (by omega) hl6)
    have goL : kLt s (ks p) → ∀ (l6 : Option Nat) (dr : Int32), dr < 0 → (l6 = none ∨ l6 = some (V.2.2.2.1 21)) → wH (hB_J42_putTreeVal_193 V o9 (hL_J42_putTreeVal_27 V o9 fu) G x (some o) (some td) (spr (hsh s)) (some ik) v l6 l7 (some r0) (some p) dr) (PtQ V G N n D ks td m i x tb (spr (hsh s), some ik, v) s) := by
      intro hkk l6 dr hdr hl6
      have ng : ¬ ps p < g := fun z => kLt_irrefl _ (kLt_trans hkk (gp.mp z))
      have nd : ¬ 0 < dr := fun z => Int32.lt_irrefl (Int32.lt_trans z hdr)
      unfold hB_J42_putTreeVal_193 hB_J42_putTreeVal_215
      refine w_neg nd (w_some (w_uL h hp ?_))
      cases e : lf p with
      | none =>
        have e6 := h6 p hp e
        have eg : g = ps p := by omega
        refine w_pos rfl (w_some (w_uN h hp (w_some (make ?_))))
        intro G1 e1 e2
        refine w_neg nd (w_usL (added G1 e1 e2) (Or.inl hp) ?_)
        intro G2 t2 k2
        refine leaf G2 _ _ t2 ⟨_, _, by rw [eg]; exact hs.insL hp e hx (leafL (g := g) hs hp e)⟩ (fun b hb => ?_)
        rw [k2 b (fun z => hb (Or.inl (z ▸ hp))), e2 b (fun z => hb (Or.inr z))]
      | some q =>
        obtain ⟨q1, q2, q3, q4⟩ := h7 p q hp e
        exact w_neg (by simp) (ih fu q l6 q1 (by omega) (by omega) (by omega) (by omega) hl6)
    rw [hL_J42_putTreeVal_27]
    refine w_some (w_uH h hp ?_)
    rw [t3]
    refine w_if (fun c1 => w_if (fun c2 => w_uK h hp ?_) (fun c2 => ?_)) (fun c1 => ?_)
    · have eh : spr (hsh s) = spr (hsh (ks p)) := Int32.le_antisymm c2 c1
      rw [t1]
      refine w_neg (fun c => ?_) (w_neg (by simp) (w_some (w_pos hk.gC (w_call0 (str_equals hV hk t2) (w_pos ?_ ?_)))))
      · have := Option.some.inj c
        rw [this] at t2
        exact hab p hp (t2.inj hk)
      · rw [if_neg (fun z => hab p hp z.symm)]
      · unfold hB_J42_putTreeVal_88
        have fin : wH (hB_J42_putTreeVal_104 V o9 (hL_J42_putTreeVal_27 V o9 fu) G x (some o) (some td) (spr (hsh s)) (some ik) v (some (V.2.2.2.1 21)) l7 (some r0) (some p) (some (ko p))) (PtQ V G N n D ks td m i x tb (spr (hsh s), some ik, v) s) := by
          unfold hB_J42_putTreeVal_104
          obtain ⟨r, e, q1, q2, q3⟩ := ccm_at (nx := x) hV hk t2
          refine w_call0 e ?_
          rcases sLt_total s (ks p) with z | z | z
          · exact absurd z.symm (hab p hp)
          · have w := q2 z
            exact w_neg (fun y => by rw [y] at w; exact absurd w (by decide)) (goL (Or.inr ⟨eh, z⟩) _ r w (Or.inr rfl))
          · have w := q3 z
            exact w_neg (fun y => by rw [y] at w; exact absurd w (by decide)) (goR (Or.inr ⟨eh.symm, z⟩) _ r w (Or.inr rfl))
        rcases hl6 with rfl | rfl
        · exact w_pos rfl (w_call0 (ccf_at hk) (w_neg (by simp) fin))
        · exact w_neg (by simp) fin
    · exact goR (Or.inl (Int32.not_le.mp c2)) l6 1 (by decide) hl6
    · exact goL (Or.inl (Int32.not_le.mp c1)) l6 (-1) (by decide) hl6
theorem ptv_at {G : Gh} {o td m i x r0 ik id : Nat} {v : Option Nat} {s : List Nat} {st : Prop} (hV : 1200 ≤ V.2.2.2.2) (hn : n < 298) (hB : TB V G N n D ks r0) (ht : TK V G N D ko kd ks) (hk : Str V G ik id s st) (hx : ¬ N x) (hb : V.1 ≤ x) (ho : gC G o 19 = true) (hab : ∀ a, N a → ks a ≠ s)
    (hm : pw m) (htd : G td = some (.inl (V.2.1 4, m, .inr (.inr (.inr (.inr tb)))))) (hbt : V.1 ≤ td) (hNt : ¬ N td) (hxt : x ≠ td) (hi0 : tb i = some r0) (hNi : ∀ a, N a → ix m (D a).1 = i) (hix : ix m (spr (hsh s)) = i) :
    wH (hF_J42_putTreeVal V G x r0 (some o) (some td) (spr (hsh s)) (some ik) v) (PtQ V G N n D ks td m i x tb (spr (hsh s), some ik, v) s) := by
  obtain ⟨nxt, pv, lf, rt, pa, rd, ps, lo, hi, h, hs, hS, hcl, hnr⟩ := hB
  obtain ⟨r1, r2, r3, r4⟩ := hs.2.2.2.1 r0 rfl
  obtain ⟨g, g1, g2⟩ := gap_ex hs.2.2.1 hs.2.1 hS s
  unfold hF_J42_putTreeVal hB_J42_putTreeVal_21
  refine w_uP h r1 ?_
  rw [r4]
  exact w_pos rfl (ptv_loop hV hn h hs ht hS hcl hnr hk hx hb ho g2 hab hm htd hbt hNt hxt hi0 hNi hix n V.2.2.2.2 r0 none r1 (by omega) (by omega) (by omega) (by omega) (Or.inl rfl))
end U

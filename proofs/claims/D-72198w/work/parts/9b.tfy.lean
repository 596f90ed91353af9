/-! PURE 32: HashMap.TreeNode.treeify -/
abbrev tcell (d : Int32 × Option Nat × Option Nat) (nx pv p l r : Option Nat) (c : Int32) : va_E := .inr (21, [.int d.1, va_rf d.2.1, va_rf d.2.2, va_rf nx, .null, .null, va_rf p, va_rf l, va_rf r, va_rf pv, .int c])
def TInv (V : HEn) (G : Gh) (N : Nat → Prop) (n : Nat) (D : Nat → Int32 × Option Nat × Option Nat) (nxt pv : Nat → Option Nat) (q : Option Nat) (ps : Nat → Nat) : Prop := ∃ lf rt pa rd lo hi, UNd V G N D nxt pv lf rt pa rd ∧ Shp N n q lf rt pa ps lo hi
def Srd (N : Nat → Prop) (ks : Nat → List Nat) (ps : Nat → Nat) : Prop := ∀ a b, N a → N b → ps a < ps b → kLt (ks a) (ks b)
section U
variable {V : HEn} {n : Nat} {N : Nat → Prop} {D : Nat → Int32 × Option Nat × Option Nat} {nxt pv lf rt pa : Nat → Option Nat} {rd : Nat → Int32} {ko kd : Nat → Nat} {ks : Nat → List Nat} {ps lo hi : Nat → Nat} {root : Option Nat}
/-- what a leaf's place must be -/
theorem leafR {g p : Nat} (hs : Shp N n root lf rt pa ps lo hi) (hp : N p) (hr : rt p = none) : ∀ q, N q → ps q = ps p + 1 → lf q ≠ none := fun q hq e hl => hs.gap hq hp (by omega) hl hr
theorem leafL {g p : Nat} (hs : Shp N n root lf rt pa ps lo hi) (hp : N p) (hl : lf p = none) : ∀ q, N q → ps q + 1 = ps p → rt q ≠ none := fun q hq e hr => hs.gap hp hq (by omega) hl hr
theorem ins_loop {o x g r0 : Nat} {l1 l4 p0 : Option Nat} {c0 : Int32} {G : Gh} {k4 : Gh → Nat → Option Nat → Option Nat → Option Nat → HO Unit} {Q : Unit → Gh → Nat → Nat → Prop} (hV : 1200 ≤ V.2.2.2.2) (hn : n < 300) (h : UNd V G N D nxt pv lf rt pa rd) (hs : Shp N n (some r0) lf rt pa ps lo hi) (ht : TK V G (inN N x) D ko kd ks) (hx : ¬ N x) (hc : G x = some (tcell (D x) (nxt x) (pv x) p0 none none c0)) (hb : V.1 ≤ x) (hg : ∀ a, N a → ps a < n → (ps a < g ↔ kLt (ks a) (ks x))) (hab : ∀ a, N a → ks a ≠ ks x)
    (K : ∀ (G' : Gh) (q : Option Nat) (nx : Nat), TInv V G' (inN N x) (n + 1) D nxt pv q (inP ps x g) → (∀ b, ¬ inN N x b → G' b = G b) → wH (k4 G' nx l1 q l4) Q) :
    ∀ (k m p nx : Nat) (l7 : Option Nat), N p → hi p - lo p ≤ k → k + 1 ≤ m → lo p ≤ g → g ≤ hi p → (l7 = none ∨ l7 = some (V.2.2.2.1 21)) → wH (hL_J42_treeify_64 V o k4 m G nx l1 (some r0) (some x) l4 (some (ko x)) (spr (hsh (ks x))) l7 (some p)) Q := by
  have hs0 := hs
  obtain ⟨h1, h2, h3, h4, h5, h6, h7, h8, h9, h10, h11⟩ := hs0
  obtain ⟨x1, x2, x3⟩ := ht x (Or.inr rfl)
  intro k
  induction k with
  | zero =>
    intro m p nx l7 hp hk0
    have := h1 p hp
    omega
  | succ k ih =>
    intro m p nx l7 hp hk0 hm hl hh hl7
    obtain ⟨m, rfl⟩ := Nat.exists_eq_succ_of_ne_zero (show m ≠ 0 by omega)
    obtain ⟨t1, t2, t3⟩ := ht p (Or.inl hp)
    have b0 := h1 p hp
    have gp := hg p hp (by omega)
    have px : p ≠ x := fun z => hx (z ▸ hp)
    -- the new leaf
    have leaf : ∀ (G1 : Gh) (lf1 rt1 : Nat → Option Nat) (nx : Nat), UNd V G1 (inN N x) D nxt pv lf1 rt1 (va_up pa x (some p)) (va_up rd x c0) → (∃ lo' hi', Shp (inN N x) (n + 1) (some r0) lf1 rt1 (va_up pa x (some p)) (inP ps x g) lo' hi') → (∀ b, ¬ inN N x b → G1 b = G b) → wH (hB_J42_treeify_197 V o k4 G1 nx l1 (some r0) (some x) l4) Q := by
      intro G1 lf1 rt1 nx u1 u2 u3
      obtain ⟨lo', hi', u2⟩ := u2
      unfold hB_J42_treeify_197 hB_J42_treeify_209
      refine w_call0' (P := fun q G' => (∃ lf' rt' pa' rd' lo' hi', UNd V G' (inN N x) D nxt pv lf' rt' pa' rd' ∧ Shp (inN N x) (n + 1) q lf' rt' pa' (inP ps x g) lo' hi') ∧ ∀ b, ¬ inN N x b → G' b = G1 b) (bal_at (by omega) (by omega) u1 u2 (Or.inr rfl)) ?_
      rintro q G' ⟨v1, v2⟩
      exact K G' q _ v1 (fun b hb => (v2 b hb).trans (u3 b hb))
    have goR : kLt (ks p) (ks x) → ∀ (l7 : Option Nat) (nx : Nat) (dr : Int32), 0 < dr → (l7 = none ∨ l7 = some (V.2.2.2.1 21)) → wH (hB_J42_treeify_143 V o k4 (hL_J42_treeify_64 V o k4 m) G nx l1 (some r0) (some x) l4 (some (ko x)) (spr (hsh (ks x))) l7 (some p) dr) Q := by
      intro hk l7 nx dr hdr hl7
      have := gp.mpr hk
      unfold hB_J42_treeify_143 hB_J42_treeify_165
      refine w_pos hdr (w_some (w_uR h hp ?_))
      cases e : rt p with
      | none =>
        have e8 := h8 p hp e
        have eg : g = ps p + 1 := by omega
        refine w_pos rfl (w_some (w_xF hc rfl (Nat.le_of_ble_eq_true rfl) hb rfl (w_pos hdr (w_some ?_))))
        have u0 : UNd V (gset G x (tcell (D x) (nxt x) (pv x) (some p) none none c0)) N D nxt pv lf rt pa rd := h.keep (fun a ha => gset_ne _ _ (fun z => hx (z ▸ ha)))
        have u1 := u0.add hx (gset_eq _ _ _) hb
        refine w_usR u1 (Or.inl hp) ?_
        intro G2 t2 k2
        refine leaf G2 _ _ _ t2 ⟨_, _, by rw [eg]; exact hs.insR hp e hx (leafR (g := g) hs hp e)⟩ (fun b hb => ?_)
        rw [k2 b (fun z => hb (Or.inl (z ▸ hp))), gset_ne _ _ (fun z => hb (Or.inr z))]
      | some q =>
        obtain ⟨q1, q2, q3, q4⟩ := h9 p q hp e
        exact w_neg (by simp) (ih m q nx l7 q1 (by omega) (by omega) (by omega) (by omega) hl7)
    have goL : kLt (ks x) (ks p) → ∀ (l7 : Option Nat) (nx : Nat) (dr : Int32), dr < 0 → (l7 = none ∨ l7 = some (V.2.2.2.1 21)) → wH (hB_J42_treeify_143 V o k4 (hL_J42_treeify_64 V o k4 m) G nx l1 (some r0) (some x) l4 (some (ko x)) (spr (hsh (ks x))) l7 (some p) dr) Q := by
      intro hk l7 nx dr hdr hl7
      have ng : ¬ ps p < g := fun z => kLt_irrefl _ (kLt_trans hk (gp.mp z))
      have nd : ¬ 0 < dr := fun z => Int32.lt_irrefl (Int32.lt_trans z hdr)
      unfold hB_J42_treeify_143 hB_J42_treeify_165
      refine w_neg nd (w_some (w_uL h hp ?_))
      cases e : lf p with
      | none =>
        have e6 := h6 p hp e
        have eg : g = ps p := by omega
        refine w_pos rfl (w_some (w_xF hc rfl (Nat.le_of_ble_eq_true rfl) hb rfl (w_neg nd (w_some ?_))))
        have u0 : UNd V (gset G x (tcell (D x) (nxt x) (pv x) (some p) none none c0)) N D nxt pv lf rt pa rd := h.keep (fun a ha => gset_ne _ _ (fun z => hx (z ▸ ha)))
        have u1 := u0.add hx (gset_eq _ _ _) hb
        refine w_usL u1 (Or.inl hp) ?_
        intro G2 t2 k2
        refine leaf G2 _ _ _ t2 ⟨_, _, by rw [eg]; exact hs.insL hp e hx (leafL (g := g) hs hp e)⟩ (fun b hb => ?_)
        rw [k2 b (fun z => hb (Or.inl (z ▸ hp))), gset_ne _ _ (fun z => hb (Or.inr z))]
      | some q =>
        obtain ⟨q1, q2, q3, q4⟩ := h7 p q hp e
        exact w_neg (by simp) (ih m q nx l7 q1 (by omega) (by omega) (by omega) (by omega) hl7)
    rw [hL_J42_treeify_64]
    refine w_some (w_uK h hp (w_uH h hp ?_))
    rw [t3, t1]
    refine w_if (fun c1 => w_if (fun c2 => ?_) (fun c2 => ?_)) (fun c1 => ?_)
    · have eh : spr (hsh (ks x)) = spr (hsh (ks p)) := Int32.le_antisymm c2 c1
      have fin : ∀ nx, wH (hB_J42_treeify_119 V o k4 (hL_J42_treeify_64 V o k4 m) G nx l1 (some r0) (some x) l4 (some (ko x)) (spr (hsh (ks x))) (some (V.2.2.2.1 21)) (some p) (some (ko p))) Q := by
        intro nx
        unfold hB_J42_treeify_119
        obtain ⟨r, e, q1, q2, q3⟩ := ccm_at (nx := nx) hV x2 t2
        refine w_call0 e ?_
        rcases sLt_total (ks x) (ks p) with z | z | z
        · exact absurd z.symm (hab p hp)
        · have w := q2 z
          exact w_neg (fun y => by rw [y] at w; exact absurd w (by decide)) (goL (Or.inr ⟨eh, z⟩) _ _ r w (Or.inr rfl))
        · have w := q3 z
          exact w_neg (fun y => by rw [y] at w; exact absurd w (by decide)) (goR (Or.inr ⟨eh.symm, z⟩) _ _ r w (Or.inr rfl))
      rcases hl7 with rfl | rfl
      · exact w_pos rfl (w_call0 (ccf_at x2) (w_neg (by simp) (fin _)))
      · exact w_neg (by simp) (fin _)
    · exact goR (Or.inl (Int32.not_le.mp c2)) l7 _ 1 (by decide) hl7
    · exact goL (Or.inl (Int32.not_le.mp c1)) l7 _ (-1) (by decide) hl7
end U

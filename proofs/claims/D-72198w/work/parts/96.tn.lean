/-! PURE 27: HashMap's tree nodes (printed by tn.py) -/
/-- tree nodes: D: hash, key, value; rd: colours -/
def UNd (V : HEn) (G : Gh) (N : Nat → Prop) (D : Nat → Int32 × Option Nat × Option Nat) (nxt pv lf rt pa : Nat → Option Nat) (rd : Nat → Int32) : Prop :=
  ∀ a, N a → G a = some (.inr (21, [.int (D a).1, va_rf (D a).2.1, va_rf (D a).2.2, va_rf (nxt a), .null, .null, va_rf (pa a), va_rf (lf a), va_rf (rt a), va_rf (pv a), .int (rd a)])) ∧ V.1 ≤ a
section U
variable {V : HEn} {G : Gh} {a n nx : Nat} {N : Nat → Prop} {D : Nat → Int32 × Option Nat × Option Nat} {nxt pv lf rt pa : Nat → Option Nat} {rd : Nat → Int32} {R : Type} {Q : R → Gh → Nat → Nat → Prop}
theorem UNd.congr {nxt' pv' lf' rt' pa' : Nat → Option Nat} {rd' : Nat → Int32} (h : UNd V G N D nxt pv lf rt pa rd) (h1 : ∀ a, N a → nxt' a = nxt a) (h2 : ∀ a, N a → pv' a = pv a) (h3 : ∀ a, N a → lf' a = lf a) (h4 : ∀ a, N a → rt' a = rt a) (h5 : ∀ a, N a → pa' a = pa a) (h6 : ∀ a, N a → rd' a = rd a) : UNd V G N D nxt' pv' lf' rt' pa' rd' := by
  intro a ha
  rw [h1 a ha, h2 a ha, h3 a ha, h4 a ha, h5 a ha, h6 a ha]
  exact h a ha
theorem UNd.keep {G' : Gh} (h : UNd V G N D nxt pv lf rt pa rd) (hk : ∀ a, N a → G' a = G a) : UNd V G' N D nxt pv lf rt pa rd := by
  intro a ha
  rw [hk a ha]
  exact h a ha
theorem w_uH {f : Int32 → HO R} (h : UNd V G N D nxt pv lf rt pa rd) (ha : N a) (kk : wH (f ((D a).1)) Q) : wH ((xI G a fl_HashMap_Node_hash).bind f) Q := w_xI (h a ha).1 rfl rfl kk
theorem w_uK {f : Option Nat → HO R} (h : UNd V G N D nxt pv lf rt pa rd) (ha : N a) (kk : wH (f ((D a).2.1)) Q) : wH ((xR G a fl_HashMap_Node_key).bind f) Q := w_xR (h a ha).1 rfl rfl kk
theorem w_uV {f : Option Nat → HO R} (h : UNd V G N D nxt pv lf rt pa rd) (ha : N a) (kk : wH (f ((D a).2.2)) Q) : wH ((xR G a fl_HashMap_Node_value).bind f) Q := w_xR (h a ha).1 rfl rfl kk
theorem w_uN {f : Option Nat → HO R} (h : UNd V G N D nxt pv lf rt pa rd) (ha : N a) (kk : wH (f (nxt a)) Q) : wH ((xR G a fl_HashMap_Node_next).bind f) Q := w_xR (h a ha).1 rfl rfl kk
theorem w_uv {f : Option Nat → HO R} (h : UNd V G N D nxt pv lf rt pa rd) (ha : N a) (kk : wH (f (pv a)) Q) : wH ((xR G a fl_HashMap_TreeNode_prev).bind f) Q := w_xR (h a ha).1 rfl rfl kk
theorem w_uL {f : Option Nat → HO R} (h : UNd V G N D nxt pv lf rt pa rd) (ha : N a) (kk : wH (f (lf a)) Q) : wH ((xR G a fl_HashMap_TreeNode_left).bind f) Q := w_xR (h a ha).1 rfl rfl kk
theorem w_uR {f : Option Nat → HO R} (h : UNd V G N D nxt pv lf rt pa rd) (ha : N a) (kk : wH (f (rt a)) Q) : wH ((xR G a fl_HashMap_TreeNode_right).bind f) Q := w_xR (h a ha).1 rfl rfl kk
theorem w_uP {f : Option Nat → HO R} (h : UNd V G N D nxt pv lf rt pa rd) (ha : N a) (kk : wH (f (pa a)) Q) : wH ((xR G a fl_HashMap_TreeNode_parent).bind f) Q := w_xR (h a ha).1 rfl rfl kk
theorem w_uC {f : Int32 → HO R} (h : UNd V G N D nxt pv lf rt pa rd) (ha : N a) (kk : wH (f (rd a)) Q) : wH ((xI G a fl_HashMap_TreeNode_red).bind f) Q := w_xI (h a ha).1 rfl rfl kk
theorem w_usN {f : Gh → HO R} {v : Option Nat} (h : UNd V G N D nxt pv lf rt pa rd) (ha : N a) (kk : ∀ G', UNd V G' N D (va_up nxt a v) pv lf rt pa rd → (∀ b, b ≠ a → G' b = G b) → wH (f G') Q) : wH ((xF V.1 G a fl_HashMap_Node_next (va_rf v)).bind f) Q := by
  refine w_xF (h a ha).1 rfl (Nat.le_of_ble_eq_true rfl) (h a ha).2 rfl (kk _ ?_ (fun b hb => gset_ne _ _ hb))
  intro b hb
  by_cases e : b = a
  · subst e; rw [gset_eq, up_eq]; exact ⟨rfl, (h b hb).2⟩
  · rw [gset_ne _ _ e, up_ne _ _ e]; exact h b hb
theorem w_usv {f : Gh → HO R} {v : Option Nat} (h : UNd V G N D nxt pv lf rt pa rd) (ha : N a) (kk : ∀ G', UNd V G' N D nxt (va_up pv a v) lf rt pa rd → (∀ b, b ≠ a → G' b = G b) → wH (f G') Q) : wH ((xF V.1 G a fl_HashMap_TreeNode_prev (va_rf v)).bind f) Q := by
  refine w_xF (h a ha).1 rfl (Nat.le_of_ble_eq_true rfl) (h a ha).2 rfl (kk _ ?_ (fun b hb => gset_ne _ _ hb))
  intro b hb
  by_cases e : b = a
  · subst e; rw [gset_eq, up_eq]; exact ⟨rfl, (h b hb).2⟩
  · rw [gset_ne _ _ e, up_ne _ _ e]; exact h b hb
theorem w_usL {f : Gh → HO R} {v : Option Nat} (h : UNd V G N D nxt pv lf rt pa rd) (ha : N a) (kk : ∀ G', UNd V G' N D nxt pv (va_up lf a v) rt pa rd → (∀ b, b ≠ a → G' b = G b) → wH (f G') Q) : wH ((xF V.1 G a fl_HashMap_TreeNode_left (va_rf v)).bind f) Q := by
  refine w_xF (h a ha).1 rfl (Nat.le_of_ble_eq_true rfl) (h a ha).2 rfl (kk _ ?_ (fun b hb => gset_ne _ _ hb))
  intro b hb
  by_cases e : b = a
  · subst e; rw [gset_eq, up_eq]; exact ⟨rfl, (h b hb).2⟩
  · rw [gset_ne _ _ e, up_ne _ _ e]; exact h b hb
theorem w_usR {f : Gh → HO R} {v : Option Nat} (h : UNd V G N D nxt pv lf rt pa rd) (ha : N a) (kk : ∀ G', UNd V G' N D nxt pv lf (va_up rt a v) pa rd → (∀ b, b ≠ a → G' b = G b) → wH (f G') Q) : wH ((xF V.1 G a fl_HashMap_TreeNode_right (va_rf v)).bind f) Q := by
  refine w_xF (h a ha).1 rfl (Nat.le_of_ble_eq_true rfl) (h a ha).2 rfl (kk _ ?_ (fun b hb => gset_ne _ _ hb))
  intro b hb
  by_cases e : b = a
  · subst e; rw [gset_eq, up_eq]; exact ⟨rfl, (h b hb).2⟩
  · rw [gset_ne _ _ e, up_ne _ _ e]; exact h b hb
theorem w_usP {f : Gh → HO R} {v : Option Nat} (h : UNd V G N D nxt pv lf rt pa rd) (ha : N a) (kk : ∀ G', UNd V G' N D nxt pv lf rt (va_up pa a v) rd → (∀ b, b ≠ a → G' b = G b) → wH (f G') Q) : wH ((xF V.1 G a fl_HashMap_TreeNode_parent (va_rf v)).bind f) Q := by
  refine w_xF (h a ha).1 rfl (Nat.le_of_ble_eq_true rfl) (h a ha).2 rfl (kk _ ?_ (fun b hb => gset_ne _ _ hb))
  intro b hb
  by_cases e : b = a
  · subst e; rw [gset_eq, up_eq]; exact ⟨rfl, (h b hb).2⟩
  · rw [gset_ne _ _ e, up_ne _ _ e]; exact h b hb
theorem w_usC {f : Gh → HO R} {v : Int32} (h : UNd V G N D nxt pv lf rt pa rd) (ha : N a) (kk : ∀ G', UNd V G' N D nxt pv lf rt pa (va_up rd a v) → (∀ b, b ≠ a → G' b = G b) → wH (f G') Q) : wH ((xF V.1 G a fl_HashMap_TreeNode_red (.int v)).bind f) Q := by
  refine w_xF (h a ha).1 rfl (Nat.le_of_ble_eq_true rfl) (h a ha).2 rfl (kk _ ?_ (fun b hb => gset_ne _ _ hb))
  intro b hb
  by_cases e : b = a
  · subst e; rw [gset_eq, up_eq]; exact ⟨rfl, (h b hb).2⟩
  · rw [gset_ne _ _ e, up_ne _ _ e]; exact h b hb
/-- a rotation: only links change, a colour may turn black -/
theorem urotL_at {p r : Nat} {root : Option Nat} {ps lo hi : Nat → Nat} (h : UNd V G N D nxt pv lf rt pa rd) (hs : Shp N n root lf rt pa ps lo hi) (hp : N p) (hr : rt p = some r) :
    wH (hF_J42_rotateLeft V G nx root (some p)) (fun q G' c s => c = 0 ∧ s = 0 ∧ q = rlT root pa p r ∧ (∃ rd', UNd V G' N D nxt pv (rlL lf pa p r) (rlR lf rt pa p r) (rlP lf pa p r) rd' ∧ ∀ a, rd' a = rd a ∨ rd' a = 0) ∧ ∀ b, ¬ N b → G' b = G b) := by
  obtain ⟨a1, a2, a3, a4, a5, a6, a7⟩ := hs.ne hp hr
  have tail : ∀ (G2 : Gh) (lf2 rt2 pa2 : Nat → Option Nat) (rd2 : Nat → Int32) (rt0 : Option Nat), UNd V G2 N D nxt pv lf2 rt2 pa2 rd2 → rt0 = rlT root pa p r → (∀ a, rd2 a = rd a ∨ rd2 a = 0) → (∀ a, N a → (if a = r then some p else lf2 a) = rlL lf pa p r a) → (∀ a, N a → rt2 a = rlR lf rt pa p r a) → (∀ a, N a → (if a = p then some r else pa2 a) = rlP lf pa p r a) → (∀ b, ¬ N b → G2 b = G b) →
      wH (hB_J42_rotateLeft_79 V G2 nx rt0 (some p) (some r)) (fun q G' c s => c = 0 ∧ s = 0 ∧ q = rlT root pa p r ∧ (∃ rd', UNd V G' N D nxt pv (rlL lf pa p r) (rlR lf rt pa p r) (rlP lf pa p r) rd' ∧ ∀ a, rd' a = rd a ∨ rd' a = 0) ∧ ∀ b, ¬ N b → G' b = G b) := by
    intro G2 lf2 rt2 pa2 rd2 rt0 h2 e0 e6 e1 e2 e3 e5
    unfold hB_J42_rotateLeft_79 hB_J42_rotateLeft_89
    refine w_some (w_usL h2 a1 ?_)
    intro G3 h3 k3
    refine w_some (w_usP h3 hp ?_)
    intro G4 h4 k4
    refine w_ret ⟨rfl, rfl, e0, ⟨rd2, h4.congr (fun a ha => rfl) (fun a ha => rfl) (fun a ha => ?_) (fun a ha => (e2 a ha).symm) (fun a ha => ?_) (fun a ha => rfl), e6⟩, ?_⟩
    · rw [← e1 a ha]; rfl
    · rw [← e3 a ha]; rfl
    · intro b hb
      rw [k4 b (fun z => hb (z ▸ hp)), k3 b (fun z => hb (z ▸ a1))]
      exact e5 b hb
  have mid : ∀ (G2 : Gh) (pa2 : Nat → Option Nat), UNd V G2 N D nxt pv lf (va_up rt p (lf r)) pa2 rd → (∀ a, N a → pa2 a = if lf r = some a then some p else pa a) → (∀ b, ¬ N b → G2 b = G b) →
      wH (hB_J42_rotateLeft_34 V G2 nx root (some p) (some r)) (fun q G' c s => c = 0 ∧ s = 0 ∧ q = rlT root pa p r ∧ (∃ rd', UNd V G' N D nxt pv (rlL lf pa p r) (rlR lf rt pa p r) (rlP lf pa p r) rd' ∧ ∀ a, rd' a = rd a ∨ rd' a = 0) ∧ ∀ b, ¬ N b → G' b = G b) := by
    intro G2 pa2 h2 e3 e5
    have ep : pa2 p = pa p := by
      rw [e3 p hp, if_neg]
      intro z
      exact (a7 p z).2.1 rfl
    unfold hB_J42_rotateLeft_34
    refine w_some (w_uP h2 hp (w_some (w_usP h2 a1 ?_)))
    intro G3 h3 k3
    rw [ep]
    cases hpp : pa p with
    | none =>
      refine w_pos rfl (w_usC h3 a1 ?_)
      intro G4 h4 k4
      refine tail _ _ _ _ _ _ h4 ?_ (fun a => ?_) ?_ ?_ ?_ ?_
      · unfold rlT; rw [if_pos hpp]
      · by_cases e : a = r
        · subst e; rw [up_eq]; exact Or.inr rfl
        · rw [up_ne _ _ e]; exact Or.inl rfl
      · intro a ha; clear tail h4 h3 h2 h e5 k3 k4; grind (splits := 24) [rlL]
      · intro a ha; clear tail h4 h3 h2 h e5 k3 k4; grind (splits := 24) [rlR, va_up]
      · intro a ha; clear tail h4 h3 h2 h e5 k3 k4; grind (splits := 24) [rlP, va_up]
      · intro b hbn; rw [k4 b (fun z => hbn (z ▸ a1)), k3 b (fun z => hbn (z ▸ a1))]; exact e5 b hbn
    | some q =>
      obtain ⟨q1, q2, q3⟩ := a6 q hpp
      refine w_neg (by simp) (w_some (w_uL h3 q1 ?_))
      refine w_if (fun c1 => ?_) (fun c1 => ?_)
      · refine w_usL h3 q1 ?_
        intro G4 h4 k4
        refine tail _ _ _ _ _ _ h4 ?_ (fun a => Or.inl rfl) ?_ ?_ ?_ ?_
        · unfold rlT; rw [if_neg (by rw [hpp]; simp)]
        · intro a ha; clear tail h4 h3 h2 h e5 k3 k4; grind (splits := 24) [rlL, va_up]
        · intro a ha; clear tail h4 h3 h2 h e5 k3 k4; grind (splits := 24) [rlR, va_up]
        · intro a ha; clear tail h4 h3 h2 h e5 k3 k4; grind (splits := 24) [rlP, va_up]
        · intro b hbn; rw [k4 b (fun z => hbn (z ▸ q1)), k3 b (fun z => hbn (z ▸ a1))]; exact e5 b hbn
      · refine w_usR h3 q1 ?_
        intro G4 h4 k4
        refine tail _ _ _ _ _ _ h4 ?_ (fun a => Or.inl rfl) ?_ ?_ ?_ ?_
        · unfold rlT; rw [if_neg (by rw [hpp]; simp)]
        · intro a ha; clear tail h4 h3 h2 h e5 k3 k4; grind (splits := 24) [rlL, va_up]
        · intro a ha; clear tail h4 h3 h2 h e5 k3 k4; grind (splits := 24) [rlR, va_up]
        · intro a ha; clear tail h4 h3 h2 h e5 k3 k4; grind (splits := 24) [rlP, va_up]
        · intro b hbn; rw [k4 b (fun z => hbn (z ▸ q1)), k3 b (fun z => hbn (z ▸ a1))]; exact e5 b hbn
  unfold hF_J42_rotateLeft
  refine w_neg (by simp) (w_some (w_uR h hp ?_))
  rw [hr]
  refine w_neg (by simp) (w_some (w_uL h a1 (w_usR h hp ?_)))
  intro G1 h1 k1
  cases hlr : lf r with
  | none =>
    refine w_pos rfl (mid G1 pa (by rw [hlr]; rw [hlr] at h1; exact h1) ?_ (fun b hbn => k1 b (fun z => hbn (z ▸ hp))))
    intro a ha; rw [hlr]; simp
  | some b =>
    obtain ⟨b1, b2, b3, b4, b5, b6⟩ := a7 b hlr
    refine w_neg (by simp) (w_some (w_usP h1 b1 ?_))
    intro G2 h2 k2
    refine mid G2 _ h2 ?_ (fun c hcn => (k2 c (fun z => hcn (z ▸ b1))).trans (k1 c (fun z => hcn (z ▸ hp))))
    intro a ha; rw [hlr]; unfold va_up; by_cases e : a = b
    · subst e; simp
    · rw [if_neg e, if_neg]; intro z; exact e (Option.some.inj z).symm
theorem urotR_at {p r : Nat} {root : Option Nat} {ps lo hi : Nat → Nat} (h : UNd V G N D nxt pv lf rt pa rd) (hs : Shp N n root lf rt pa ps lo hi) (hp : N p) (hr : lf p = some r) :
    wH (hF_J42_rotateRight V G nx root (some p)) (fun q G' c s => c = 0 ∧ s = 0 ∧ q = rlT root pa p r ∧ (∃ rd', UNd V G' N D nxt pv (rrL lf rt pa p r) (rrR rt pa p r) (rrP rt pa p r) rd' ∧ ∀ a, rd' a = rd a ∨ rd' a = 0) ∧ ∀ b, ¬ N b → G' b = G b) := by
  obtain ⟨a1, a2, a3, a4, a5, a6, a7⟩ := hs.ne' hp hr
  have tail : ∀ (G2 : Gh) (rt2 lf2 pa2 : Nat → Option Nat) (rd2 : Nat → Int32) (rt0 : Option Nat), UNd V G2 N D nxt pv lf2 rt2 pa2 rd2 → rt0 = rlT root pa p r → (∀ a, rd2 a = rd a ∨ rd2 a = 0) → (∀ a, N a → (if a = r then some p else rt2 a) = rrR rt pa p r a) → (∀ a, N a → lf2 a = rrL lf rt pa p r a) → (∀ a, N a → (if a = p then some r else pa2 a) = rrP rt pa p r a) → (∀ b, ¬ N b → G2 b = G b) →
      wH (hB_J42_rotateRight_79 V G2 nx rt0 (some p) (some r)) (fun q G' c s => c = 0 ∧ s = 0 ∧ q = rlT root pa p r ∧ (∃ rd', UNd V G' N D nxt pv (rrL lf rt pa p r) (rrR rt pa p r) (rrP rt pa p r) rd' ∧ ∀ a, rd' a = rd a ∨ rd' a = 0) ∧ ∀ b, ¬ N b → G' b = G b) := by
    intro G2 rt2 lf2 pa2 rd2 rt0 h2 e0 e6 e2 e1 e3 e5
    unfold hB_J42_rotateRight_79 hB_J42_rotateRight_89
    refine w_some (w_usR h2 a1 ?_)
    intro G3 h3 k3
    refine w_some (w_usP h3 hp ?_)
    intro G4 h4 k4
    refine w_ret ⟨rfl, rfl, e0, ⟨rd2, h4.congr (fun a ha => rfl) (fun a ha => rfl) (fun a ha => (e1 a ha).symm) (fun a ha => ?_) (fun a ha => ?_) (fun a ha => rfl), e6⟩, ?_⟩
    · rw [← e2 a ha]; rfl
    · rw [← e3 a ha]; rfl
    · intro b hb
      rw [k4 b (fun z => hb (z ▸ hp)), k3 b (fun z => hb (z ▸ a1))]
      exact e5 b hb
  have mid : ∀ (G2 : Gh) (pa2 : Nat → Option Nat), UNd V G2 N D nxt pv (va_up lf p (rt r)) rt pa2 rd → (∀ a, N a → pa2 a = if rt r = some a then some p else pa a) → (∀ b, ¬ N b → G2 b = G b) →
      wH (hB_J42_rotateRight_34 V G2 nx root (some p) (some r)) (fun q G' c s => c = 0 ∧ s = 0 ∧ q = rlT root pa p r ∧ (∃ rd', UNd V G' N D nxt pv (rrL lf rt pa p r) (rrR rt pa p r) (rrP rt pa p r) rd' ∧ ∀ a, rd' a = rd a ∨ rd' a = 0) ∧ ∀ b, ¬ N b → G' b = G b) := by
    intro G2 pa2 h2 e3 e5
    have ep : pa2 p = pa p := by
      rw [e3 p hp, if_neg]
      intro z
      exact (a7 p z).2.1 rfl
    unfold hB_J42_rotateRight_34
    refine w_some (w_uP h2 hp (w_some (w_usP h2 a1 ?_)))
    intro G3 h3 k3
    rw [ep]
    cases hpp : pa p with
    | none =>
      refine w_pos rfl (w_usC h3 a1 ?_)
      intro G4 h4 k4
      refine tail _ _ _ _ _ _ h4 ?_ (fun a => ?_) ?_ ?_ ?_ ?_
      · unfold rlT; rw [if_pos hpp]
      · by_cases e : a = r
        · subst e; rw [up_eq]; exact Or.inr rfl
        · rw [up_ne _ _ e]; exact Or.inl rfl
      · intro a ha; clear tail h4 h3 h2 h e5 k3 k4; grind (splits := 24) [rrR]
      · intro a ha; clear tail h4 h3 h2 h e5 k3 k4; grind (splits := 24) [rrL, va_up]
      · intro a ha; clear tail h4 h3 h2 h e5 k3 k4; grind (splits := 24) [rrP, va_up]
      · intro b hbn; rw [k4 b (fun z => hbn (z ▸ a1)), k3 b (fun z => hbn (z ▸ a1))]; exact e5 b hbn
    | some q =>
      obtain ⟨q1, q2, q3⟩ := a6 q hpp
      refine w_neg (by simp) (w_some (w_uR h3 q1 ?_))
      refine w_if (fun c1 => ?_) (fun c1 => ?_)
      · refine w_usR h3 q1 ?_
        intro G4 h4 k4
        refine tail _ _ _ _ _ _ h4 ?_ (fun a => Or.inl rfl) ?_ ?_ ?_ ?_
        · unfold rlT; rw [if_neg (by rw [hpp]; simp)]
        · intro a ha; clear tail h4 h3 h2 h e5 k3 k4; grind (splits := 24) [rrR, va_up]
        · intro a ha; clear tail h4 h3 h2 h e5 k3 k4; grind (splits := 24) [rrL, va_up]
        · intro a ha; clear tail h4 h3 h2 h e5 k3 k4; grind (splits := 24) [rrP, va_up]
        · intro b hbn; rw [k4 b (fun z => hbn (z ▸ q1)), k3 b (fun z => hbn (z ▸ a1))]; exact e5 b hbn
      · refine w_usL h3 q1 ?_
        intro G4 h4 k4
        refine tail _ _ _ _ _ _ h4 ?_ (fun a => Or.inl rfl) ?_ ?_ ?_ ?_
        · unfold rlT; rw [if_neg (by rw [hpp]; simp)]
        · intro a ha; clear tail h4 h3 h2 h e5 k3 k4; grind (splits := 24) [rrR, va_up]
        · intro a ha; clear tail h4 h3 h2 h e5 k3 k4; grind (splits := 24) [rrL, va_up]
        · intro a ha; clear tail h4 h3 h2 h e5 k3 k4; grind (splits := 24) [rrP, va_up]
        · intro b hbn; rw [k4 b (fun z => hbn (z ▸ q1)), k3 b (fun z => hbn (z ▸ a1))]; exact e5 b hbn
  unfold hF_J42_rotateRight
  refine w_neg (by simp) (w_some (w_uL h hp ?_))
  rw [hr]
  refine w_neg (by simp) (w_some (w_uR h a1 (w_usL h hp ?_)))
  intro G1 h1 k1
  cases hlr : rt r with
  | none =>
    refine w_pos rfl (mid G1 pa (by rw [hlr]; rw [hlr] at h1; exact h1) ?_ (fun b hbn => k1 b (fun z => hbn (z ▸ hp))))
    intro a ha; rw [hlr]; simp
  | some b =>
    obtain ⟨b1, b2, b3, b4, b5, b6⟩ := a7 b hlr
    refine w_neg (by simp) (w_some (w_usP h1 b1 ?_))
    intro G2 h2 k2
    refine mid G2 _ h2 ?_ (fun c hcn => (k2 c (fun z => hcn (z ▸ b1))).trans (k1 c (fun z => hcn (z ▸ hp))))
    intro a ha; rw [hlr]; unfold va_up; by_cases e : a = b
    · subst e; simp
    · rw [if_neg e, if_neg]; intro z; exact e (Option.some.inj z).symm
end U

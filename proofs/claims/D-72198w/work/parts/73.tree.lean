/-! PURE 4: deletion in shapes; TreeMap's nodes in the heap; rotations -/
section S
variable {N : Nat → Prop} {n : Nat} {root : Option Nat} {lf rt pa : Nat → Option Nat} {ps lo hi : Nat → Nat}
/-- p, which has at most the child cc, is taken out -/
def deN (N : Nat → Prop) (p : Nat) : Nat → Prop := fun a => N a ∧ a ≠ p
def deP (ps : Nat → Nat) (i : Nat) : Nat → Nat := fun a => if i < ps a then ps a - 1 else ps a
def deT (root : Option Nat) (pa : Nat → Option Nat) (p : Nat) (cc : Option Nat) : Option Nat := if pa p = none then cc else root
def deL (lf pa : Nat → Option Nat) (p : Nat) (cc : Option Nat) : Nat → Option Nat := fun a => if pa p = some a ∧ lf a = some p then cc else lf a
def deR (lf rt pa : Nat → Option Nat) (p : Nat) (cc : Option Nat) : Nat → Option Nat := fun a => if pa p = some a ∧ ¬ lf a = some p then cc else rt a
def dePa (pa : Nat → Option Nat) (p : Nat) (cc : Option Nat) : Nat → Option Nat := fun a => if cc = some a then pa p else pa a
theorem Shp.del (h : Shp N n root lf rt pa ps lo hi) {p : Nat} {cc : Option Nat} (hp : N p) (hc : (lf p = cc ∧ rt p = none) ∨ (rt p = cc ∧ lf p = none)) : Shp (deN N p) (n - 1) (deT root pa p cc) (deL lf pa p cc) (deR lf rt pa p cc) (dePa pa p cc) (deP ps (ps p)) (deP lo (ps p)) (deP hi (ps p)) := by
  obtain ⟨h1, h2, h3, h4, h5, h6, h7, h8, h9, h10, h11⟩ := h
  have b2 := h1 p hp
  refine ⟨?_, ?_, ?_, ?_, ?_, ?_, ?_, ?_, ?_, ?_, ?_⟩
  · grind (splits := 24) [deN, deP]
  · grind (splits := 24) [deN, deP]
  · intro i hi'
    rcases Nat.lt_or_ge i (ps p) with z | z
    · obtain ⟨a, c1, c2⟩ := h3 i (by omega)
      exact ⟨a, by grind [deN], by grind [deP]⟩
    · obtain ⟨a, c1, c2⟩ := h3 (i + 1) (by omega)
      exact ⟨a, by grind [deN], by grind [deP]⟩
  · grind (splits := 24) [deN, deT, deP, dePa]
  · grind (splits := 24) [deT]
  · grind (splits := 24) [deN, deL, deP]
  · grind (splits := 24) [deN, deL, deP, dePa]
  · grind (splits := 24) [deN, deR, deP]
  · grind (splits := 24) [deN, deR, deP, dePa]
  · grind (splits := 24) [deN, deL, deR, dePa]
  · grind (splits := 24) [deN, deT, dePa]
end S
theorem up_eq {α : Type} (f : Nat → α) (k : Nat) (v : α) : va_up f k v k = v := if_pos rfl
theorem up_ne {α : Type} (f : Nat → α) {k j : Nat} (v : α) (h : j ≠ k) : va_up f k v j = f j := if_neg h
/-- the nodes of a TreeMap in the heap -/
def TNd (V : HEn) (G : Gh) (o : Nat) (N : Nat → Prop) (lf rt pa : Nat → Option Nat) (co : Nat → Int32) (kv vv : Nat → Option Nat) : Prop :=
  ∀ a, N a → G a = some (.inr (11, [va_rf (kv a), va_rf (vv a), va_rf (lf a), va_rf (rt a), va_rf (pa a), .int (co a)])) ∧ V.1 ≤ a ∧ a ≠ o ∧ (co a = 0 ∨ co a = 1)
section T
variable {V : HEn} {G : Gh} {o a n : Nat} {N : Nat → Prop} {lf rt pa : Nat → Option Nat} {co : Nat → Int32} {kv vv : Nat → Option Nat} {R : Type} {Q : R → Gh → Nat → Nat → Prop}
theorem TNd.congr {lf' rt' pa' kv' vv' : Nat → Option Nat} {co' : Nat → Int32} (h : TNd V G o N lf rt pa co kv vv) (h1 : ∀ a, N a → lf' a = lf a) (h2 : ∀ a, N a → rt' a = rt a) (h3 : ∀ a, N a → pa' a = pa a) (h4 : ∀ a, N a → co' a = co a) (h5 : ∀ a, N a → kv' a = kv a) (h6 : ∀ a, N a → vv' a = vv a) : TNd V G o N lf' rt' pa' co' kv' vv' := by
  intro a ha
  rw [h1 a ha, h2 a ha, h3 a ha, h4 a ha, h5 a ha, h6 a ha]
  exact h a ha
theorem TNd.keep {G' : Gh} (h : TNd V G o N lf rt pa co kv vv) (hk : ∀ a, N a → G' a = G a) : TNd V G' o N lf rt pa co kv vv := by
  intro a ha
  rw [hk a ha]
  exact h a ha
theorem w_tK {f : Option Nat → HO R} (h : TNd V G o N lf rt pa co kv vv) (ha : N a) (kk : wH (f (kv a)) Q) : wH ((xR G a fl_TreeMap_Entry_key).bind f) Q := w_xR (h a ha).1 rfl rfl kk
theorem w_tV {f : Option Nat → HO R} (h : TNd V G o N lf rt pa co kv vv) (ha : N a) (kk : wH (f (vv a)) Q) : wH ((xR G a fl_TreeMap_Entry_value).bind f) Q := w_xR (h a ha).1 rfl rfl kk
theorem w_tL {f : Option Nat → HO R} (h : TNd V G o N lf rt pa co kv vv) (ha : N a) (kk : wH (f (lf a)) Q) : wH ((xR G a fl_TreeMap_Entry_left).bind f) Q := w_xR (h a ha).1 rfl rfl kk
theorem w_tR {f : Option Nat → HO R} (h : TNd V G o N lf rt pa co kv vv) (ha : N a) (kk : wH (f (rt a)) Q) : wH ((xR G a fl_TreeMap_Entry_right).bind f) Q := w_xR (h a ha).1 rfl rfl kk
theorem w_tP {f : Option Nat → HO R} (h : TNd V G o N lf rt pa co kv vv) (ha : N a) (kk : wH (f (pa a)) Q) : wH ((xR G a fl_TreeMap_Entry_parent).bind f) Q := w_xR (h a ha).1 rfl rfl kk
theorem w_tC {f : Int32 → HO R} (h : TNd V G o N lf rt pa co kv vv) (ha : N a) (kk : wH (f (co a)) Q) : wH ((xI G a fl_TreeMap_Entry_color).bind f) Q := w_xI (h a ha).1 rfl rfl kk
theorem w_tsK {f : Gh → HO R} {v : Option Nat} (h : TNd V G o N lf rt pa co kv vv) (ha : N a) (kk : ∀ G', TNd V G' o N lf rt pa co (va_up kv a v) vv → (∀ b, b ≠ a → G' b = G b) → wH (f G') Q) : wH ((xF V.1 G a fl_TreeMap_Entry_key (va_rf v)).bind f) Q := by
  refine w_xF (h a ha).1 rfl (Nat.le_of_ble_eq_true rfl) (h a ha).2.1 rfl (kk _ ?_ (fun b hb => gset_ne _ _ hb))
  intro b hb
  by_cases e : b = a
  · subst e; rw [gset_eq, up_eq]; exact ⟨rfl, (h b hb).2⟩
  · rw [gset_ne _ _ e, up_ne _ _ e]; exact h b hb
theorem w_tsV {f : Gh → HO R} {v : Option Nat} (h : TNd V G o N lf rt pa co kv vv) (ha : N a) (kk : ∀ G', TNd V G' o N lf rt pa co kv (va_up vv a v) → (∀ b, b ≠ a → G' b = G b) → wH (f G') Q) : wH ((xF V.1 G a fl_TreeMap_Entry_value (va_rf v)).bind f) Q := by
  refine w_xF (h a ha).1 rfl (Nat.le_of_ble_eq_true rfl) (h a ha).2.1 rfl (kk _ ?_ (fun b hb => gset_ne _ _ hb))
  intro b hb
  by_cases e : b = a
  · subst e; rw [gset_eq, up_eq]; exact ⟨rfl, (h b hb).2⟩
  · rw [gset_ne _ _ e, up_ne _ _ e]; exact h b hb
theorem w_tsL {f : Gh → HO R} {v : Option Nat} (h : TNd V G o N lf rt pa co kv vv) (ha : N a) (kk : ∀ G', TNd V G' o N (va_up lf a v) rt pa co kv vv → (∀ b, b ≠ a → G' b = G b) → wH (f G') Q) : wH ((xF V.1 G a fl_TreeMap_Entry_left (va_rf v)).bind f) Q := by
  refine w_xF (h a ha).1 rfl (Nat.le_of_ble_eq_true rfl) (h a ha).2.1 rfl (kk _ ?_ (fun b hb => gset_ne _ _ hb))
  intro b hb
  by_cases e : b = a
  · subst e; rw [gset_eq, up_eq]; exact ⟨rfl, (h b hb).2⟩
  · rw [gset_ne _ _ e, up_ne _ _ e]; exact h b hb
theorem w_tsR {f : Gh → HO R} {v : Option Nat} (h : TNd V G o N lf rt pa co kv vv) (ha : N a) (kk : ∀ G', TNd V G' o N lf (va_up rt a v) pa co kv vv → (∀ b, b ≠ a → G' b = G b) → wH (f G') Q) : wH ((xF V.1 G a fl_TreeMap_Entry_right (va_rf v)).bind f) Q := by
  refine w_xF (h a ha).1 rfl (Nat.le_of_ble_eq_true rfl) (h a ha).2.1 rfl (kk _ ?_ (fun b hb => gset_ne _ _ hb))
  intro b hb
  by_cases e : b = a
  · subst e; rw [gset_eq, up_eq]; exact ⟨rfl, (h b hb).2⟩
  · rw [gset_ne _ _ e, up_ne _ _ e]; exact h b hb
theorem w_tsP {f : Gh → HO R} {v : Option Nat} (h : TNd V G o N lf rt pa co kv vv) (ha : N a) (kk : ∀ G', TNd V G' o N lf rt (va_up pa a v) co kv vv → (∀ b, b ≠ a → G' b = G b) → wH (f G') Q) : wH ((xF V.1 G a fl_TreeMap_Entry_parent (va_rf v)).bind f) Q := by
  refine w_xF (h a ha).1 rfl (Nat.le_of_ble_eq_true rfl) (h a ha).2.1 rfl (kk _ ?_ (fun b hb => gset_ne _ _ hb))
  intro b hb
  by_cases e : b = a
  · subst e; rw [gset_eq, up_eq]; exact ⟨rfl, (h b hb).2⟩
  · rw [gset_ne _ _ e, up_ne _ _ e]; exact h b hb
theorem w_tsC {f : Gh → HO R} {v : Int32} (h : TNd V G o N lf rt pa co kv vv) (ha : N a) (hv : v = 0 ∨ v = 1) (kk : ∀ G', TNd V G' o N lf rt pa (va_up co a v) kv vv → (∀ b, b ≠ a → G' b = G b) → wH (f G') Q) : wH ((xF V.1 G a fl_TreeMap_Entry_color (.int v)).bind f) Q := by
  refine w_xF (h a ha).1 rfl (Nat.le_of_ble_eq_true rfl) (h a ha).2.1 rfl (kk _ ?_ (fun b hb => gset_ne _ _ hb))
  intro b hb
  by_cases e : b = a
  · subst e; rw [gset_eq, up_eq]; exact ⟨rfl, (h b hb).2.1, (h b hb).2.2.1, hv⟩
  · rw [gset_ne _ _ e, up_ne _ _ e]; exact h b hb
/-- the TreeMap's own cell -/
abbrev tobj (x0 x1 root : Option Nat) (sz mc : Int32) (es ks x8 : Option Nat) : va_E := .inr (10, [va_rf x0, va_rf x1, va_rf none, va_rf root, .int sz, .int mc, va_rf es, va_rf ks, va_rf x8])
variable {x0 x1 root es ks x8 : Option Nat} {sz mc : Int32} {ps lo hi : Nat → Nat} {nx : Nat}
theorem rotL_at {p r : Nat} (h : TNd V G o N lf rt pa co kv vv) (ho : G o = some (tobj x0 x1 root sz mc es ks x8)) (hb : V.1 ≤ o) (hs : Shp N n root lf rt pa ps lo hi) (hp : N p) (hr : rt p = some r) :
    wH (hF_J4_rotateLeft V G nx o (some p)) (fun _ G' c s => c = 0 ∧ s = 0 ∧ TNd V G' o N (rlL lf pa p r) (rlR lf rt pa p r) (rlP lf pa p r) co kv vv ∧ G' o = some (tobj x0 x1 (rlT root pa p r) sz mc es ks x8) ∧ ∀ b, ¬ N b → b ≠ o → G' b = G b) := by
  obtain ⟨a1, a2, a3, a4, a5, a6, a7⟩ := hs.ne hp hr
  have hpo := (h p hp).2.2.1
  have hro := (h r a1).2.2.1
  unfold hF_J4_rotateLeft
  refine w_neg (by simp) (w_some ?_)
  refine w_tR h hp ?_
  rw [hr]
  refine w_some (w_tL h a1 (w_tsR h hp ?_))
  intro G1 h1 k1
  refine w_tL h1 a1 ?_
  have tail : ∀ (G2 : Gh) (lf2 rt2 pa2 : Nat → Option Nat) (rt0 : Option Nat), TNd V G2 o N lf2 rt2 pa2 co kv vv → (∀ a, N a → (if a = r then some p else lf2 a) = rlL lf pa p r a) → (∀ a, N a → rt2 a = rlR lf rt pa p r a) → (∀ a, N a → (if a = p then some r else pa2 a) = rlP lf pa p r a) → G2 o = some (tobj x0 x1 (rlT root pa p r) sz mc es ks x8) → (∀ b, ¬ N b → b ≠ o → G2 b = G b) →
      wH (hB_J4_rotateLeft_85 V o G2 nx (some p) (some r)) (fun _ G' c s => c = 0 ∧ s = 0 ∧ TNd V G' o N (rlL lf pa p r) (rlR lf rt pa p r) (rlP lf pa p r) co kv vv ∧ G' o = some (tobj x0 x1 (rlT root pa p r) sz mc es ks x8) ∧ ∀ b, ¬ N b → b ≠ o → G' b = G b) := by
    intro G2 lf2 rt2 pa2 rt0 h2 e1 e2 e3 e4 e5
    unfold hB_J4_rotateLeft_85 hB_J4_rotateLeft_95
    refine w_some (w_tsL h2 a1 ?_)
    intro G3 h3 k3
    refine w_some (w_tsP h3 hp ?_)
    intro G4 h4 k4
    refine w_ret ⟨rfl, rfl, h4.congr (fun a ha => ?_) (fun a ha => (e2 a ha).symm) (fun a ha => ?_) (fun a ha => rfl) (fun a ha => rfl) (fun a ha => rfl), ?_, ?_⟩
    · rw [← e1 a ha]; rfl
    · rw [← e3 a ha]; rfl
    · rw [k4 o (Ne.symm hpo), k3 o (Ne.symm hro)]; exact e4
    · intro b hb hbo
      rw [k4 b (fun z => hb (z ▸ hp)), k3 b (fun z => hb (z ▸ a1))]
      exact e5 b hb hbo
  have mid : ∀ (G2 : Gh) (pa2 : Nat → Option Nat), TNd V G2 o N lf (va_up rt p (lf r)) pa2 co kv vv → (∀ a, N a → pa2 a = if lf r = some a then some p else pa a) → G2 o = G o → (∀ b, ¬ N b → b ≠ o → G2 b = G b) →
      wH (hB_J4_rotateLeft_32 V o G2 nx (some p) (some r)) (fun _ G' c s => c = 0 ∧ s = 0 ∧ TNd V G' o N (rlL lf pa p r) (rlR lf rt pa p r) (rlP lf pa p r) co kv vv ∧ G' o = some (tobj x0 x1 (rlT root pa p r) sz mc es ks x8) ∧ ∀ b, ¬ N b → b ≠ o → G' b = G b) := by
    intro G2 pa2 h2 e3 e4 e5
    have ep : pa2 p = pa p := by
      rw [e3 p hp, if_neg]
      intro z
      exact (a7 p z).2.1 rfl
    unfold hB_J4_rotateLeft_32
    refine w_some (w_tP h2 hp (w_some (w_tsP h2 a1 ?_)))
    intro G3 h3 k3
    refine w_tP h3 hp ?_
    rw [up_ne _ _ (Ne.symm a2), ep]
    cases hpp : pa p with
    | none =>
      refine w_pos rfl (w_xF (v := va_rf (some r)) ((k3 o (Ne.symm hro)).trans (e4.trans ho)) rfl (Nat.le_of_ble_eq_true rfl) hb rfl ?_)
      refine tail _ lf (va_up rt p (lf r)) (va_up pa2 r (pa2 p)) root (TNd.keep (G' := gset G3 o _) h3 fun a ha => gset_ne _ _ (h a ha).2.2.1) ?_ ?_ ?_ ?_ ?_
      · intro a ha; grind [rlL]
      · intro a ha; grind [rlR, va_up]
      · intro a ha; grind [rlP, va_up]
      · rw [gset_eq]; unfold rlT; rw [if_pos hpp]; rfl
      · intro b hbn hbo; rw [gset_ne _ _ hbo, k3 b (fun z => hbn (z ▸ a1))]; exact e5 b hbn hbo
    | some q =>
      obtain ⟨q1, q2, q3⟩ := a6 q hpp
      have hqo := (h q q1).2.2.1
      refine w_neg (by simp) (w_tP h3 hp ?_)
      rw [up_ne _ _ (Ne.symm a2), ep, hpp]
      refine w_some (w_tL h3 q1 ?_)
      refine w_if (fun c1 => ?_) (fun c1 => ?_)
      · refine w_tP h3 hp ?_
        rw [up_ne _ _ (Ne.symm a2), ep, hpp]
        refine w_some (w_tsL h3 q1 ?_)
        intro G4 h4 k4
        refine tail _ _ _ _ root h4 ?_ ?_ ?_ ?_ ?_
        · intro a ha; grind [rlL, va_up]
        · intro a ha; grind [rlR, va_up]
        · intro a ha; grind [rlP, va_up]
        · rw [k4 o (Ne.symm hqo), k3 o (Ne.symm hro), e4, ho]; unfold rlT; rw [if_neg (by rw [hpp]; simp)]
        · intro b hbn hbo; rw [k4 b (fun z => hbn (z ▸ q1)), k3 b (fun z => hbn (z ▸ a1))]; exact e5 b hbn hbo
      · refine w_tP h3 hp ?_
        rw [up_ne _ _ (Ne.symm a2), ep, hpp]
        refine w_some (w_tsR h3 q1 ?_)
        intro G4 h4 k4
        refine tail _ _ _ _ root h4 ?_ ?_ ?_ ?_ ?_
        · intro a ha; grind [rlL, va_up]
        · intro a ha; grind [rlR, va_up]
        · intro a ha; grind [rlP, va_up]
        · rw [k4 o (Ne.symm hqo), k3 o (Ne.symm hro), e4, ho]; unfold rlT; rw [if_neg (by rw [hpp]; simp)]
        · intro b hbn hbo; rw [k4 b (fun z => hbn (z ▸ q1)), k3 b (fun z => hbn (z ▸ a1))]; exact e5 b hbn hbo
  cases hlr : lf r with
  | none =>
    refine w_pos rfl (mid G1 pa h1 ?_ (k1 o (Ne.symm hpo)) (fun b hbn hbo => k1 b (fun z => hbn (z ▸ hp))))
    intro a ha; rw [hlr]; simp
  | some b =>
    obtain ⟨b1, b2, b3, b4, b5, b6⟩ := a7 b hlr
    refine w_neg (by simp) (w_tL h1 a1 ?_)
    rw [hlr]
    refine w_some (w_tsP h1 b1 ?_)
    intro G2 h2 k2
    refine mid G2 _ h2 ?_ ((k2 o (Ne.symm (h b b1).2.2.1)).trans (k1 o (Ne.symm hpo))) (fun c hcn hco => (k2 c (fun z => hcn (z ▸ b1))).trans (k1 c (fun z => hcn (z ▸ hp))))
    intro a ha; rw [hlr]; unfold va_up; by_cases e : a = b
    · subst e; simp
    · rw [if_neg e, if_neg]; intro z; exact e (Option.some.inj z).symm
end T

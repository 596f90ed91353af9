/-! PURE 5: rotations to the right (printed by mirror.py); parents, colours; fixAfterInsertion -/
section T
variable {V : HEn} {G : Gh} {o a n : Nat} {N : Nat → Prop} {lf rt pa : Nat → Option Nat} {co : Nat → Int32} {kv vv : Nat → Option Nat} {R : Type} {Q : R → Gh → Nat → Nat → Prop}
variable {x0 x1 root es ks x8 : Option Nat} {sz mc : Int32} {ps lo hi : Nat → Nat} {nx : Nat}
theorem rotR_at {p r : Nat} (h : TNd V G o N lf rt pa co kv vv) (ho : G o = some (tobj x0 x1 root sz mc es ks x8)) (hb : V.1 ≤ o) (hs : Shp N n root lf rt pa ps lo hi) (hp : N p) (hr : lf p = some r) :
    wH (hF_J4_rotateRight V G nx o (some p)) (fun _ G' c s => c = 0 ∧ s = 0 ∧ TNd V G' o N (rrL lf rt pa p r) (rrR rt pa p r) (rrP rt pa p r) co kv vv ∧ G' o = some (tobj x0 x1 (rlT root pa p r) sz mc es ks x8) ∧ ∀ b, ¬ N b → b ≠ o → G' b = G b) := by
  obtain ⟨a1, a2, a3, a4, a5, a6, a7⟩ := hs.ne' hp hr
  have hpo := (h p hp).2.2.1
  have hro := (h r a1).2.2.1
  unfold hF_J4_rotateRight
  refine w_neg (by simp) (w_some ?_)
  refine w_tL h hp ?_
  rw [hr]
  refine w_some (w_tR h a1 (w_tsL h hp ?_))
  intro G1 h1 k1
  refine w_tR h1 a1 ?_
  have tail : ∀ (G2 : Gh) (rt2 lf2 pa2 : Nat → Option Nat) (rt0 : Option Nat), TNd V G2 o N lf2 rt2 pa2 co kv vv → (∀ a, N a → (if a = r then some p else rt2 a) = rrR rt pa p r a) → (∀ a, N a → lf2 a = rrL lf rt pa p r a) → (∀ a, N a → (if a = p then some r else pa2 a) = rrP rt pa p r a) → G2 o = some (tobj x0 x1 (rlT root pa p r) sz mc es ks x8) → (∀ b, ¬ N b → b ≠ o → G2 b = G b) →
      wH (hB_J4_rotateRight_85 V o G2 nx (some p) (some r)) (fun _ G' c s => c = 0 ∧ s = 0 ∧ TNd V G' o N (rrL lf rt pa p r) (rrR rt pa p r) (rrP rt pa p r) co kv vv ∧ G' o = some (tobj x0 x1 (rlT root pa p r) sz mc es ks x8) ∧ ∀ b, ¬ N b → b ≠ o → G' b = G b) := by
    intro G2 rt2 lf2 pa2 rt0 h2 e2 e1 e3 e4 e5
    unfold hB_J4_rotateRight_85 hB_J4_rotateRight_95
    refine w_some (w_tsR h2 a1 ?_)
    intro G3 h3 k3
    refine w_some (w_tsP h3 hp ?_)
    intro G4 h4 k4
    refine w_ret ⟨rfl, rfl, h4.congr (fun a ha => (e1 a ha).symm) (fun a ha => ?_) (fun a ha => ?_) (fun a ha => rfl) (fun a ha => rfl) (fun a ha => rfl), ?_, ?_⟩
    · rw [← e2 a ha]; rfl
    · rw [← e3 a ha]; rfl
    · rw [k4 o (Ne.symm hpo), k3 o (Ne.symm hro)]; exact e4
    · intro b hb hbo
      rw [k4 b (fun z => hb (z ▸ hp)), k3 b (fun z => hb (z ▸ a1))]
      exact e5 b hb hbo
  have mid : ∀ (G2 : Gh) (pa2 : Nat → Option Nat), TNd V G2 o N (va_up lf p (rt r)) rt pa2 co kv vv → (∀ a, N a → pa2 a = if rt r = some a then some p else pa a) → G2 o = G o → (∀ b, ¬ N b → b ≠ o → G2 b = G b) →
      wH (hB_J4_rotateRight_32 V o G2 nx (some p) (some r)) (fun _ G' c s => c = 0 ∧ s = 0 ∧ TNd V G' o N (rrL lf rt pa p r) (rrR rt pa p r) (rrP rt pa p r) co kv vv ∧ G' o = some (tobj x0 x1 (rlT root pa p r) sz mc es ks x8) ∧ ∀ b, ¬ N b → b ≠ o → G' b = G b) := by
    intro G2 pa2 h2 e3 e4 e5
    have ep : pa2 p = pa p := by
      rw [e3 p hp, if_neg]
      intro z
      exact (a7 p z).2.1 rfl
    unfold hB_J4_rotateRight_32
    refine w_some (w_tP h2 hp (w_some (w_tsP h2 a1 ?_)))
    intro G3 h3 k3
    refine w_tP h3 hp ?_
    rw [up_ne _ _ (Ne.symm a2), ep]
    cases hpp : pa p with
    | none =>
      refine w_pos rfl (w_xF (v := va_rf (some r)) ((k3 o (Ne.symm hro)).trans (e4.trans ho)) rfl (Nat.le_of_ble_eq_true rfl) hb rfl ?_)
      refine tail _ rt (va_up lf p (rt r)) (va_up pa2 r (pa2 p)) root (TNd.keep (G' := gset G3 o _) h3 fun a ha => gset_ne _ _ (h a ha).2.2.1) ?_ ?_ ?_ ?_ ?_
      · intro a ha; grind [rrR]
      · intro a ha; grind [rrL, va_up]
      · intro a ha; grind [rrP, va_up]
      · rw [gset_eq]; unfold rlT; rw [if_pos hpp]; rfl
      · intro b hbn hbo; rw [gset_ne _ _ hbo, k3 b (fun z => hbn (z ▸ a1))]; exact e5 b hbn hbo
    | some q =>
      obtain ⟨q1, q2, q3⟩ := a6 q hpp
      have hqo := (h q q1).2.2.1
      refine w_neg (by simp) (w_tP h3 hp ?_)
      rw [up_ne _ _ (Ne.symm a2), ep, hpp]
      refine w_some (w_tR h3 q1 ?_)
      refine w_if (fun c1 => ?_) (fun c1 => ?_)
      · refine w_tP h3 hp ?_
        rw [up_ne _ _ (Ne.symm a2), ep, hpp]
        refine w_some (w_tsR h3 q1 ?_)
        intro G4 h4 k4
        refine tail _ _ _ _ root h4 ?_ ?_ ?_ ?_ ?_
        · intro a ha; grind [rrR, va_up]
        · intro a ha; grind [rrL, va_up]
        · intro a ha; grind [rrP, va_up]
        · rw [k4 o (Ne.symm hqo), k3 o (Ne.symm hro), e4, ho]; unfold rlT; rw [if_neg (by rw [hpp]; simp)]
        · intro b hbn hbo; rw [k4 b (fun z => hbn (z ▸ q1)), k3 b (fun z => hbn (z ▸ a1))]; exact e5 b hbn hbo
      · refine w_tP h3 hp ?_
        rw [up_ne _ _ (Ne.symm a2), ep, hpp]
        refine w_some (w_tsL h3 q1 ?_)
        intro G4 h4 k4
        refine tail _ _ _ _ root h4 ?_ ?_ ?_ ?_ ?_
        · intro a ha; grind [rrR, va_up]
        · intro a ha; grind [rrL, va_up]
        · intro a ha; grind [rrP, va_up]
        · rw [k4 o (Ne.symm hqo), k3 o (Ne.symm hro), e4, ho]; unfold rlT; rw [if_neg (by rw [hpp]; simp)]
        · intro b hbn hbo; rw [k4 b (fun z => hbn (z ▸ q1)), k3 b (fun z => hbn (z ▸ a1))]; exact e5 b hbn hbo
  cases hlr : rt r with
  | none =>
    refine w_pos rfl (mid G1 pa h1 ?_ (k1 o (Ne.symm hpo)) (fun b hbn hbo => k1 b (fun z => hbn (z ▸ hp))))
    intro a ha; rw [hlr]; simp
  | some b =>
    obtain ⟨b1, b2, b3, b4, b5, b6⟩ := a7 b hlr
    refine w_neg (by simp) (w_tR h1 a1 ?_)
    rw [hlr]
    refine w_some (w_tsP h1 b1 ?_)
    intro G2 h2 k2
    refine mid G2 _ h2 ?_ ((k2 o (Ne.symm (h b b1).2.2.1)).trans (k1 o (Ne.symm hpo))) (fun c hcn hco => (k2 c (fun z => hcn (z ▸ b1))).trans (k1 c (fun z => hcn (z ▸ hp))))
    intro a ha; rw [hlr]; unfold va_up; by_cases e : a = b
    · subst e; simp
    · rw [if_neg e, if_neg]; intro z; exact e (Option.some.inj z).symm

theorem w_call0 {R S : Type} {Q : R → Gh → Nat → Nat → Prop} {x : HO S} {f : S → Gh → Nat → HO R} {r : S} {G : Gh} (e : x = some (r, G, 0, 0)) (k : wH (f r G 0) Q) : wH (cB x f) Q := by
  refine w_callE e ?_
  simp only [Nat.zero_add]
  exact k
theorem w_call0' {R S : Type} {Q : R → Gh → Nat → Nat → Prop} {x : HO S} {f : S → Gh → Nat → HO R} {P : S → Gh → Prop} (e : wH x (fun r G c s => c = 0 ∧ s = 0 ∧ P r G)) (k : ∀ r G, P r G → wH (f r G 0) Q) : wH (cB x f) Q := by
  obtain ⟨r, G, c, s, e, rfl, rfl, p⟩ := e
  exact w_call0 e (k r G p)
/-- colours: of null black -/
def cOf (co : Nat → Int32) (r : Option Nat) : Int32 := match r with
  | none => 1
  | some a => co a
def sCo (co : Nat → Int32) (r : Option Nat) (v : Int32) : Nat → Int32 := match r with
  | none => co
  | some a => va_up co a v
theorem w_pOf {f : Option Nat → Gh → Nat → HO R} {r : Option Nat} (h : TNd V G o N lf rt pa co kv vv) (hr : ∀ a, r = some a → N a) (kk : wH (f (r.bind pa) G 0) Q) : wH (cB (hF_J4_parentOf V G nx r) f) Q := by
  refine w_call0 ?_ kk
  cases r with
  | none => rfl
  | some a =>
    unfold hF_J4_parentOf hB_J4_parentOf_12
    rw [if_neg (by simp)]
    show (xR G a fl_TreeMap_Entry_parent).bind _ = _
    rw [xR_at (r := pa a) (h a (hr a rfl)).1 rfl rfl]
    rfl
theorem w_lOf {f : Option Nat → Gh → Nat → HO R} {r : Option Nat} (h : TNd V G o N lf rt pa co kv vv) (hr : ∀ a, r = some a → N a) (kk : wH (f (r.bind lf) G 0) Q) : wH (cB (hF_J4_leftOf V G nx r) f) Q := by
  refine w_call0 ?_ kk
  cases r with
  | none => rfl
  | some a =>
    unfold hF_J4_leftOf hB_J4_leftOf_12
    rw [if_neg (by simp)]
    show (xR G a fl_TreeMap_Entry_left).bind _ = _
    rw [xR_at (r := lf a) (h a (hr a rfl)).1 rfl rfl]
    rfl
theorem w_rOf {f : Option Nat → Gh → Nat → HO R} {r : Option Nat} (h : TNd V G o N lf rt pa co kv vv) (hr : ∀ a, r = some a → N a) (kk : wH (f (r.bind rt) G 0) Q) : wH (cB (hF_J4_rightOf V G nx r) f) Q := by
  refine w_call0 ?_ kk
  cases r with
  | none => rfl
  | some a =>
    unfold hF_J4_rightOf hB_J4_rightOf_12
    rw [if_neg (by simp)]
    show (xR G a fl_TreeMap_Entry_right).bind _ = _
    rw [xR_at (r := rt a) (h a (hr a rfl)).1 rfl rfl]
    rfl
theorem w_cOf {f : Int32 → Gh → Nat → HO R} {r : Option Nat} (h : TNd V G o N lf rt pa co kv vv) (hr : ∀ a, r = some a → N a) (kk : wH (f (cOf co r) G 0) Q) : wH (cB (hF_J4_colorOf V G nx r) f) Q := by
  refine w_call0 ?_ kk
  cases r with
  | none => rfl
  | some a =>
    unfold hF_J4_colorOf hB_J4_colorOf_12
    rw [if_neg (by simp)]
    show (xI G a fl_TreeMap_Entry_color).bind _ = _
    rw [xI_at (x := co a) (h a (hr a rfl)).1 rfl rfl]
    show (if vp_nar .boolean (co a) = co a then some (co a, G, 0, 0) else none) = _
    rw [if_pos]
    · rfl
    · rcases (h a (hr a rfl)).2.2.2 with e | e <;> rw [e] <;> rfl
theorem w_sCo {f : Unit → Gh → Nat → HO R} {r : Option Nat} {v : Int32} (h : TNd V G o N lf rt pa co kv vv) (hr : ∀ a, r = some a → N a) (hv : v = 0 ∨ v = 1) (kk : ∀ G', TNd V G' o N lf rt pa (sCo co r v) kv vv → (∀ b, ¬ N b → G' b = G b) → wH (f () G' 0) Q) : wH (cB (hF_J4_setColor V G nx r v) f) Q := by
  cases r with
  | none => exact w_call0 rfl (kk G h (fun _ _ => rfl))
  | some a =>
    have ha := hr a rfl
    refine w_call0' (P := fun _ G' => TNd V G' o N lf rt pa (sCo co (some a) v) kv vv ∧ (∀ b, ¬ N b → G' b = G b)) ?_ (fun _ G' p => kk G' p.1 p.2)
    unfold hF_J4_setColor hB_J4_setColor_9
    refine w_neg (by simp) (w_some (w_pos hv (w_tsC h ha hv ?_)))
    intro G' h' k'
    exact w_ret ⟨rfl, rfl, h', fun b hb => k' b (fun z => hb (z ▸ ha))⟩
theorem w_rotL {f : Unit → Gh → Nat → HO R} {p r : Nat} (h : TNd V G o N lf rt pa co kv vv) (ho : G o = some (tobj x0 x1 root sz mc es ks x8)) (hb : V.1 ≤ o) (hs : Shp N n root lf rt pa ps lo hi) (hp : N p) (hr : rt p = some r)
    (kk : ∀ G', TNd V G' o N (rlL lf pa p r) (rlR lf rt pa p r) (rlP lf pa p r) co kv vv → G' o = some (tobj x0 x1 (rlT root pa p r) sz mc es ks x8) → (∀ b, ¬ N b → b ≠ o → G' b = G b) → wH (f () G' 0) Q) : wH (cB (hF_J4_rotateLeft V G nx o (some p)) f) Q :=
  w_call0' (rotL_at h ho hb hs hp hr) (fun _ G' q => kk G' q.1 q.2.1 q.2.2)
theorem w_rotR {f : Unit → Gh → Nat → HO R} {p r : Nat} (h : TNd V G o N lf rt pa co kv vv) (ho : G o = some (tobj x0 x1 root sz mc es ks x8)) (hb : V.1 ≤ o) (hs : Shp N n root lf rt pa ps lo hi) (hp : N p) (hr : lf p = some r)
    (kk : ∀ G', TNd V G' o N (rrL lf rt pa p r) (rrR rt pa p r) (rrP rt pa p r) co kv vv → G' o = some (tobj x0 x1 (rlT root pa p r) sz mc es ks x8) → (∀ b, ¬ N b → b ≠ o → G' b = G b) → wH (f () G' 0) Q) : wH (cB (hF_J4_rotateRight V G nx o (some p)) f) Q :=
  w_call0' (rotR_at h ho hb hs hp hr) (fun _ G' q => kk G' q.1 q.2.1 q.2.2)
end T

/-! PURE 6: fixAfterInsertion -/
/-- a TreeMap's tree: nodes N, in order by ps, their keys and values kv, vv -/
def TreeOk (V : HEn) (G : Gh) (o : Nat) (N : Nat → Prop) (n : Nat) (kv vv : Nat → Option Nat) (ps : Nat → Nat) (x0 x1 : Option Nat) (sz mc : Int32) (es ks x8 : Option Nat) : Prop :=
  ∃ root lf rt pa co lo hi, TNd V G o N lf rt pa co kv vv ∧ G o = some (tobj x0 x1 root sz mc es ks x8) ∧ Shp N n root lf rt pa ps lo hi
theorem Shp.par {N : Nat → Prop} {n : Nat} {root : Option Nat} {lf rt pa : Nat → Option Nat} {ps lo hi : Nat → Nat} (h : Shp N n root lf rt pa ps lo hi) {x : Nat} (hx : N x) (hr : ¬ some x = root) : ∃ q, pa x = some q ∧ N q ∧ (lf q = some x ∨ rt q = some x) ∧ q ≠ x ∧ hi x - lo x < hi q - lo q := by
  obtain ⟨h1, h2, h3, h4, h5, h6, h7, h8, h9, h10, h11⟩ := h
  cases e : pa x with
  | none => exact absurd (h11 x hx e).symm hr
  | some q =>
    obtain ⟨c1, c2⟩ := h10 x q hx e
    have b1 := h1 x hx
    have b2 := h1 q c1
    refine ⟨q, rfl, c1, c2, ?_, ?_⟩
    · intro z; subst z
      rcases c2 with c2 | c2
      · have := h7 _ _ c1 c2; omega
      · have := h9 _ _ c1 c2; omega
    · rcases c2 with c2 | c2
      · have := h7 _ _ c1 c2; omega
      · have := h9 _ _ c1 c2; omega
section T
variable {V : HEn} {o n : Nat} {N : Nat → Prop} {kv vv : Nat → Option Nat}
variable {x0 x1 es ks x8 : Option Nat} {sz mc : Int32} {ps : Nat → Nat}
theorem fixI_fin {G G0 : Gh} {nx : Nat} {root : Option Nat} {lf rt pa : Nat → Option Nat} {co : Nat → Int32} {lo hi : Nat → Nat} (h : TNd V G o N lf rt pa co kv vv) (ho : G o = some (tobj x0 x1 root sz mc es ks x8)) (hs : Shp N n root lf rt pa ps lo hi) (hn : 0 < n) (hf : ∀ b, ¬ N b → b ≠ o → G b = G0 b) :
    wH (hB_J4_fixAfterInsertion_258 V o G nx) (fun _ G' c s => c = 0 ∧ s = 0 ∧ TreeOk V G' o N n kv vv ps x0 x1 sz mc es ks x8 ∧ ∀ b, ¬ N b → b ≠ o → G' b = G0 b) := by
  unfold hB_J4_fixAfterInsertion_258
  refine w_xR ho rfl rfl ?_
  cases hr : root with
  | none => exact absurd (hs.2.2.2.2.1 hr) (by omega)
  | some r =>
    have hN := (hs.2.2.2.1 r hr).1
    refine w_some (w_tsC h hN (Or.inr rfl) ?_)
    intro G' h' k'
    refine w_ret ⟨rfl, rfl, ⟨root, lf, rt, pa, _, lo, hi, h', ?_, hs⟩, ?_⟩
    · rw [k' o (Ne.symm (h r hN).2.2.1), ho]
    · intro b hb hbo
      rw [k' b (fun z => hb (z ▸ hN))]
      exact hf b hb hbo
abbrev fixPost (V : HEn) (G0 : Gh) (o : Nat) (N : Nat → Prop) (n : Nat) (kv vv : Nat → Option Nat) (ps : Nat → Nat) (x0 x1 : Option Nat) (sz mc : Int32) (es ks x8 : Option Nat) : Unit → Gh → Nat → Nat → Prop := fun _ G' c s => c = 0 ∧ s = 0 ∧ TreeOk V G' o N n kv vv ps x0 x1 sz mc es ks x8 ∧ ∀ b, ¬ N b → b ≠ o → G' b = G0 b
theorem fixI_118 {G G0 : Gh} {nx : Nat} {root : Option Nat} {lf rt pa : Nat → Option Nat} {co : Nat → Int32} {lo hi : Nat → Nat} {k5 : Gh → Nat → Option Nat → HO Unit} {y z g : Nat} (hb : V.1 ≤ o) (h : TNd V G o N lf rt pa co kv vv) (ho : G o = some (tobj x0 x1 root sz mc es ks x8)) (hs : Shp N n root lf rt pa ps lo hi) (hf : ∀ b, ¬ N b → b ≠ o → G b = G0 b)
    (hy : N y) (hz : N z) (hg : N g) (e1 : pa y = some z) (e2 : pa z = some g) (e3 : lf g = some z) (e4 : ¬ rt z = some y)
    (hk : ∀ (G : Gh) (nx : Nat) (root : Option Nat) (lf rt pa : Nat → Option Nat) (co : Nat → Int32) (lo hi : Nat → Nat), TNd V G o N lf rt pa co kv vv → G o = some (tobj x0 x1 root sz mc es ks x8) → Shp N n root lf rt pa ps lo hi → (∀ b, ¬ N b → b ≠ o → G b = G0 b) → (∃ q, pa y = some q ∧ ¬ co q = 0) → wH (k5 G nx (some y)) (fixPost V G0 o N n kv vv ps x0 x1 sz mc es ks x8)) :
    wH (hB_J4_fixAfterInsertion_118 V o k5 G nx (some y)) (fixPost V G0 o N n kv vv ps x0 x1 sz mc es ks x8) := by
  have fY : ∀ a, some y = some a → N a := fun a e => by cases e; exact hy
  have fZ : ∀ a, some z = some a → N a := fun a e => by cases e; exact hz
  have fG : ∀ a, some g = some a → N a := fun a e => by cases e; exact hg
  have hzo := (h z hz).2.2.1
  have hgo := (h g hg).2.2.1
  obtain ⟨r1, r2, r3, r4, r5, r6, r7⟩ := hs.ne' hg e3
  have hyz : y ≠ z := by
    intro e; subst e
    obtain ⟨h1, h2, h3, h4, h5, h6, h7, h8, h9, h10, h11⟩ := hs
    have := h1 y hy
    rcases (h10 y y hy e1).2 with w | w
    · have := h7 y y hy w; omega
    · have := h9 y y hy w; omega
  have hyg : y ≠ g := by
    intro e; subst e
    obtain ⟨h1, h2, h3, h4, h5, h6, h7, h8, h9, h10, h11⟩ := hs
    have := h1 y hy
    have := h1 z hz
    have := h7 y z hy e3
    rcases (h10 y z hy e1).2 with w | w
    · have := h7 z y hz w; omega
    · have := h9 z y hz w; omega
  unfold hB_J4_fixAfterInsertion_118
  refine w_pOf h fY ?_
  simp only [Option.bind_some, e1]
  refine w_sCo h fZ (Or.inr rfl) ?_
  intro G1 h1 k1
  refine w_pOf h1 fY ?_
  simp only [Option.bind_some, e1]
  refine w_pOf h1 fZ ?_
  simp only [Option.bind_some, e2]
  refine w_sCo h1 fG (Or.inl rfl) ?_
  intro G2 h2 k2
  refine w_pOf h2 fY ?_
  simp only [Option.bind_some, e1]
  refine w_pOf h2 fZ ?_
  simp only [Option.bind_some, e2]
  unfold hB_J4_fixAfterInsertion_145
  have no : ¬ N o := fun z => (h o z).2.2.1 rfl
  have ho2 : G2 o = some (tobj x0 x1 root sz mc es ks x8) := by rw [k2 o no, k1 o no, ho]
  refine w_some (w_pos (gC_at ho2) ?_)
  refine w_rotR h2 ho2 hb hs hg e3 ?_
  intro G3 h3 ho3 k3
  unfold hB_J4_fixAfterInsertion_148
  refine hk _ _ _ _ _ _ _ _ _ h3 ho3 (hs.rotR hg e3) (fun b hbn hbo => ?_) ⟨z, ?_, ?_⟩
  · rw [k3 b hbn hbo, k2 b hbn, k1 b hbn]; exact hf b hbn hbo
  · unfold rrP; rw [if_neg hyg, if_neg hyz, if_neg e4]; exact e1
  · show ¬ va_up (va_up co z 1) g 0 z = 0
    rw [up_ne _ _ r2, up_eq]; decide
theorem fixI_225 {G G0 : Gh} {nx : Nat} {root : Option Nat} {lf rt pa : Nat → Option Nat} {co : Nat → Int32} {lo hi : Nat → Nat} {k5 : Gh → Nat → Option Nat → HO Unit} {y z : Nat} (hb : V.1 ≤ o) (h : TNd V G o N lf rt pa co kv vv) (ho : G o = some (tobj x0 x1 root sz mc es ks x8)) (hs : Shp N n root lf rt pa ps lo hi) (hf : ∀ b, ¬ N b → b ≠ o → G b = G0 b)
    (hy : N y) (hz : N z) (e1 : pa y = some z) (e2 : ∀ g, pa z = some g → N g ∧ rt g = some z) (e4 : ¬ lf z = some y)
    (hk : ∀ (G : Gh) (nx : Nat) (root : Option Nat) (lf rt pa : Nat → Option Nat) (co : Nat → Int32) (lo hi : Nat → Nat), TNd V G o N lf rt pa co kv vv → G o = some (tobj x0 x1 root sz mc es ks x8) → Shp N n root lf rt pa ps lo hi → (∀ b, ¬ N b → b ≠ o → G b = G0 b) → (∃ q, pa y = some q ∧ ¬ co q = 0) → wH (k5 G nx (some y)) (fixPost V G0 o N n kv vv ps x0 x1 sz mc es ks x8)) :
    wH (hB_J4_fixAfterInsertion_225 V o k5 G nx (some y)) (fixPost V G0 o N n kv vv ps x0 x1 sz mc es ks x8) := by
  have fY : ∀ a, some y = some a → N a := fun a e => by cases e; exact hy
  have fZ : ∀ a, some z = some a → N a := fun a e => by cases e; exact hz
  have fG : ∀ a, pa z = some a → N a := fun a e => (e2 a e).1
  have hzo := (h z hz).2.2.1
  have no : ¬ N o := fun z => (h o z).2.2.1 rfl
  have hyz : y ≠ z := by
    intro e; subst e
    obtain ⟨h1, h2, h3, h4, h5, h6, h7, h8, h9, h10, h11⟩ := hs
    have := h1 y hy
    rcases (h10 y y hy e1).2 with w | w
    · have := h7 y y hy w; omega
    · have := h9 y y hy w; omega
  unfold hB_J4_fixAfterInsertion_225
  refine w_pOf h fY ?_
  simp only [Option.bind_some, e1]
  refine w_sCo h fZ (Or.inr rfl) ?_
  intro G1 h1 k1
  refine w_pOf h1 fY ?_
  simp only [Option.bind_some, e1]
  refine w_pOf h1 fZ ?_
  simp only [Option.bind_some]
  refine w_sCo h1 fG (Or.inl rfl) ?_
  intro G2 h2 k2
  refine w_pOf h2 fY ?_
  simp only [Option.bind_some, e1]
  refine w_pOf h2 fZ ?_
  simp only [Option.bind_some]
  unfold hB_J4_fixAfterInsertion_252
  have ho2 : G2 o = some (tobj x0 x1 root sz mc es ks x8) := by rw [k2 o no, k1 o no, ho]
  refine w_some (w_pos (gC_at ho2) ?_)
  cases e3 : pa z with
  | none =>
    refine w_call0 rfl ?_
    unfold hB_J4_fixAfterInsertion_255
    rw [e3] at h2
    refine hk _ _ _ _ _ _ _ _ _ h2 ho2 hs (fun b hbn hbo => ?_) ⟨z, e1, ?_⟩
    · rw [k2 b hbn, k1 b hbn]; exact hf b hbn hbo
    · show ¬ va_up co z 1 z = 0
      rw [up_eq]; decide
  | some g =>
    obtain ⟨hg, e5⟩ := e2 g e3
    obtain ⟨r1, r2, r3, r4, r5, r6, r7⟩ := hs.ne hg e5
    have hyg : y ≠ g := by
      intro e; subst e
      obtain ⟨h1, h2, h3, h4, h5, h6, h7, h8, h9, h10, h11⟩ := hs
      have := h1 y hy
      have := h1 z hz
      have := h9 y z hy e5
      rcases (h10 y z hy e1).2 with w | w
      · have := h7 z y hz w; omega
      · have := h9 z y hz w; omega
    refine w_rotL h2 ho2 hb hs hg e5 ?_
    intro G3 h3 ho3 k3
    unfold hB_J4_fixAfterInsertion_255
    refine hk _ _ _ _ _ _ _ _ _ h3 ho3 (hs.rotL hg e5) (fun b hbn hbo => ?_) ⟨z, ?_, ?_⟩
    · rw [k3 b hbn hbo, k2 b hbn, k1 b hbn]; exact hf b hbn hbo
    · unfold rlP; rw [if_neg hyg, if_neg hyz, if_neg e4]; exact e1
    · rw [e3]
      show ¬ va_up (va_up co z 1) g 0 z = 0
      rw [up_ne _ _ r2, up_eq]; decide
theorem fixI_loop {G0 : Gh} (hb : V.1 ≤ o) (hn : 0 < n) : ∀ (m : Nat) (G : Gh) (nx : Nat) (root : Option Nat) (lf rt pa : Nat → Option Nat) (co : Nat → Int32) (lo hi : Nat → Nat) (x : Nat), TNd V G o N lf rt pa co kv vv → G o = some (tobj x0 x1 root sz mc es ks x8) → Shp N n root lf rt pa ps lo hi → N x → (∀ b, ¬ N b → b ≠ o → G b = G0 b) →
    (((some x = root ∨ ∃ q, pa x = some q ∧ ¬ co q = 0) ∧ 1 ≤ m) ∨ n + 2 ≤ m + (hi x - lo x)) →
    wH (hL_J4_fixAfterInsertion_5 V o m G nx (some x)) (fun _ G' c s => c = 0 ∧ s = 0 ∧ TreeOk V G' o N n kv vv ps x0 x1 sz mc es ks x8 ∧ ∀ b, ¬ N b → b ≠ o → G' b = G0 b) := by
  intro m
  induction m with
  | zero =>
    intro G nx root lf rt pa co lo hi x h ho hs hx hf hm
    have := hs.1 x hx
    omega
  | succ m ih =>
    intro G nx root lf rt pa co lo hi x h ho hs hx hf hm
    rw [hL_J4_fixAfterInsertion_5]
    refine w_neg (by simp) (w_xR ho rfl rfl ?_)
    refine w_if (fun c1 => fixI_fin h ho hs hn hf) (fun c1 => ?_)
    obtain ⟨q, hq, qN, qc, qx, qm⟩ := hs.par hx c1
    refine w_some (w_tP h hx ?_)
    rw [hq]
    refine w_some (w_tC h qN ?_)
    refine w_if (fun c2 => ?_) (fun c2 => fixI_fin h ho hs hn hf)
    have hm' : n + 2 ≤ m + 1 + (hi x - lo x) := by
      rcases hm with ⟨hm | ⟨q', e1, e2⟩, -⟩ | hm
      · exact absurd hm c1
      · rw [hq] at e1; cases e1; exact absurd c2 e2
      · exact hm
    have m1 : 1 ≤ m := by
      have := hs.1 x hx
      omega
    have hgc : gC G o 10 = true := gC_at ho
    have no : ¬ N o := fun z => (h o z).2.2.1 rfl
    have fX : ∀ a, some x = some a → N a := fun a e => by cases e; exact hx
    have fQ : ∀ a, some q = some a → N a := fun a e => by cases e; exact qN
    have fG : ∀ a, pa q = some a → N a := fun a e => (hs.2.2.2.2.2.2.2.2.2.1 q a qN e).1
    refine w_pOf h fX ?_
    simp only [Option.bind_some, hq]
    refine w_pOf h fX ?_
    simp only [Option.bind_some, hq]
    refine w_pOf h fQ ?_
    simp only [Option.bind_some]
    refine w_lOf h fG ?_
    refine w_if (fun c3 => ?_) (fun c3 => ?_)
    · obtain ⟨g, e2, e3⟩ : ∃ g, pa q = some g ∧ lf g = some q := by
        cases e : pa q with
        | none => rw [e] at c3; cases c3
        | some g => rw [e] at c3; exact ⟨g, rfl, c3.symm⟩
      have gN := fG g e2
      have fGG : ∀ a, some g = some a → N a := fun a e => by cases e; exact gN
      have fR : ∀ a, rt g = some a → N a := fun a e => (hs.2.2.2.2.2.2.2.2.1 g a gN e).1
      have gm : hi q - lo q < hi g - lo g := by
        obtain ⟨q', z1, z2, z3, z4, z5⟩ := hs.par qN (by intro z; have := (hs.2.2.2.1 q z.symm).2.2.2; rw [e2] at this; cases this)
        rw [e2] at z1; cases z1; exact z5
      refine w_pOf h fX ?_
      simp only [Option.bind_some, hq]
      refine w_pOf h fQ ?_
      simp only [Option.bind_some, e2]
      refine w_rOf h fGG ?_
      simp only [Option.bind_some]
      unfold hB_J4_fixAfterInsertion_54
      refine w_cOf h fR ?_
      refine w_if (fun c4 => ?_) (fun c4 => ?_)
      · refine w_pOf h fX ?_
        simp only [Option.bind_some, hq]
        refine w_sCo h fQ (Or.inr rfl) ?_
        intro G1 h1 k1
        refine w_sCo h1 fR (Or.inr rfl) ?_
        intro G2 h2 k2
        refine w_pOf h2 fX ?_
        simp only [Option.bind_some, hq]
        refine w_pOf h2 fQ ?_
        simp only [Option.bind_some, e2]
        refine w_sCo h2 fGG (Or.inl rfl) ?_
        intro G3 h3 k3
        unfold hB_J4_fixAfterInsertion_86
        refine w_pOf h3 fX ?_
        simp only [Option.bind_some, hq]
        refine w_pOf h3 fQ ?_
        simp only [Option.bind_some, e2]
        unfold hB_J4_fixAfterInsertion_148
        refine ih _ _ _ _ _ _ _ lo hi g h3 ?_ hs gN ?_ (Or.inr (by omega))
        · rw [k3 o no, k2 o no, k1 o no, ho]
        · intro b hbn hbo; rw [k3 b hbn, k2 b hbn, k1 b hbn]; exact hf b hbn hbo
      · refine w_pOf h fX ?_
        simp only [Option.bind_some, hq]
        refine w_rOf h fQ ?_
        simp only [Option.bind_some]
        refine w_if (fun c5 => ?_) (fun c5 => ?_)
        · refine w_pOf h fX ?_
          simp only [Option.bind_some, hq]
          refine w_pos hgc (w_rotL h ho hb hs qN c5.symm ?_)
          intro G1 h1 ho1 k1
          obtain ⟨r1, r2, r3, r4, r5, r6, r7⟩ := hs.ne qN c5.symm
          obtain ⟨g1, g2, g3⟩ := r6 g e2
          refine fixI_118 hb h1 ho1 (hs.rotL qN c5.symm) (fun b hbn hbo => (k1 b hbn hbo).trans (hf b hbn hbo)) qN hx gN ?_ ?_ ?_ ?_ (fun G nx root lf rt pa co lo hi a1 a2 a3 a4 a5 => ih G nx root lf rt pa co lo hi q a1 a2 a3 qN a4 (Or.inl ⟨Or.inr a5, m1⟩))
          · unfold rlP; rw [if_pos rfl]
          · unfold rlP; rw [if_neg r2, if_pos rfl]; exact e2
          · unfold rlL; rw [if_neg g3, if_pos ⟨e2, e3⟩]
          · have hs1 := hs.rotL qN c5.symm
            intro z
            have z1 := hs1.2.2.2.2.2.2.2.2.1 x q hx z
            have z2 := hs1.2.2.2.2.2.2.1 x q hx (by unfold rlL; rw [if_pos rfl])
            have z3 := hs1.1 q qN
            have z4 := hs1.1 x hx
            omega
        · refine fixI_118 hb h ho hs hf hx qN gN hq e2 e3 (fun z => c5 z.symm) (fun G nx root lf rt pa co lo hi a1 a2 a3 a4 a5 => ih G nx root lf rt pa co lo hi x a1 a2 a3 hx a4 (Or.inl ⟨Or.inr a5, m1⟩))
    · have e2 : ∀ g, pa q = some g → N g ∧ rt g = some q := by
        intro g e
        refine ⟨fG g e, ?_⟩
        rcases (hs.2.2.2.2.2.2.2.2.2.1 q g qN e).2 with w | w
        · exact absurd (by rw [e]; exact w.symm) c3
        · exact w
      have fR : ∀ a, (pa q).bind lf = some a → N a := by
        intro a e
        cases e3 : pa q with
        | none => rw [e3] at e; cases e
        | some g => rw [e3] at e; exact (hs.2.2.2.2.2.2.1 g a (fG g e3) e).1
      refine w_pOf h fX ?_
      simp only [Option.bind_some, hq]
      refine w_pOf h fQ ?_
      simp only [Option.bind_some]
      refine w_lOf h fG ?_
      unfold hB_J4_fixAfterInsertion_161
      refine w_cOf h fR ?_
      refine w_if (fun c4 => ?_) (fun c4 => ?_)
      · obtain ⟨g, e3⟩ : ∃ g, pa q = some g := by
          cases e : pa q with
          | none => rw [e] at c4; cases c4
          | some g => exact ⟨g, rfl⟩
        have gN := fG g e3
        have fGG : ∀ a, some g = some a → N a := fun a e => by cases e; exact gN
        have gm : hi q - lo q < hi g - lo g := by
          obtain ⟨q', z1, z2, z3, z4, z5⟩ := hs.par qN (by intro z; have := (hs.2.2.2.1 q z.symm).2.2.2; rw [e3] at this; cases this)
          rw [e3] at z1; cases z1; exact z5
        refine w_pOf h fX ?_
        simp only [Option.bind_some, hq]
        refine w_sCo h fQ (Or.inr rfl) ?_
        intro G1 h1 k1
        refine w_sCo h1 fR (Or.inr rfl) ?_
        intro G2 h2 k2
        refine w_pOf h2 fX ?_
        simp only [Option.bind_some, hq]
        refine w_pOf h2 fQ ?_
        simp only [Option.bind_some, e3]
        refine w_sCo h2 fGG (Or.inl rfl) ?_
        intro G3 h3 k3
        unfold hB_J4_fixAfterInsertion_193
        refine w_pOf h3 fX ?_
        simp only [Option.bind_some, hq]
        refine w_pOf h3 fQ ?_
        simp only [Option.bind_some, e3]
        unfold hB_J4_fixAfterInsertion_255
        refine ih _ _ _ _ _ _ _ lo hi g h3 ?_ hs gN ?_ (Or.inr (by omega))
        · rw [k3 o no, k2 o no, k1 o no, ho]
        · intro b hbn hbo; rw [k3 b hbn, k2 b hbn, k1 b hbn]; exact hf b hbn hbo
      · refine w_pOf h fX ?_
        simp only [Option.bind_some, hq]
        refine w_lOf h fQ ?_
        simp only [Option.bind_some]
        refine w_if (fun c5 => ?_) (fun c5 => ?_)
        · refine w_pOf h fX ?_
          simp only [Option.bind_some, hq]
          refine w_pos hgc (w_rotR h ho hb hs qN c5.symm ?_)
          intro G1 h1 ho1 k1
          obtain ⟨r1, r2, r3, r4, r5, r6, r7⟩ := hs.ne' qN c5.symm
          refine fixI_225 hb h1 ho1 (hs.rotR qN c5.symm) (fun b hbn hbo => (k1 b hbn hbo).trans (hf b hbn hbo)) qN hx ?_ ?_ ?_ (fun G nx root lf rt pa co lo hi a1 a2 a3 a4 a5 => ih G nx root lf rt pa co lo hi q a1 a2 a3 qN a4 (Or.inl ⟨Or.inr a5, m1⟩))
          · unfold rrP; rw [if_pos rfl]
          · intro g e
            unfold rrP at e; rw [if_neg r2, if_pos rfl] at e
            obtain ⟨g1, g2, g3⟩ := r6 g e
            refine ⟨g1, ?_⟩
            unfold rrR; rw [if_neg g3, if_pos ⟨e, (e2 g e).2⟩]
          · have hs1 := hs.rotR qN c5.symm
            intro z
            have z1 := hs1.2.2.2.2.2.2.1 x q hx z
            have z2 := hs1.2.2.2.2.2.2.2.2.1 x q hx (by unfold rrR; rw [if_pos rfl])
            have z3 := hs1.1 q qN
            have z4 := hs1.1 x hx
            omega
        · refine fixI_225 hb h ho hs hf hx qN hq e2 (fun z => c5 z.symm) (fun G nx root lf rt pa co lo hi a1 a2 a3 a4 a5 => ih G nx root lf rt pa co lo hi x a1 a2 a3 hx a4 (Or.inl ⟨Or.inr a5, m1⟩))
theorem fixI_at {G : Gh} {nx x : Nat} {root : Option Nat} {lf rt pa : Nat → Option Nat} {co : Nat → Int32} {lo hi : Nat → Nat} (hb : V.1 ≤ o) (hn : 0 < n) (hN : n + 2 ≤ V.2.2.2.2) (h : TNd V G o N lf rt pa co kv vv) (ho : G o = some (tobj x0 x1 root sz mc es ks x8)) (hs : Shp N n root lf rt pa ps lo hi) (hx : N x) :
    wH (hF_J4_fixAfterInsertion V G nx o (some x)) (fixPost V G o N n kv vv ps x0 x1 sz mc es ks x8) := by
  unfold hF_J4_fixAfterInsertion
  refine w_some (w_tsC h hx (Or.inl rfl) ?_)
  intro G1 h1 k1
  refine fixI_loop hb hn _ G1 nx root lf rt pa _ lo hi x h1 ?_ hs hx ?_ (Or.inr (by omega))
  · rw [k1 o (Ne.symm (h x hx).2.2.1), ho]
  · intro b hbn hbo; exact k1 b (fun z => hbn (z ▸ hx))
end T

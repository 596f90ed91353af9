/-! PURE 10: fixAfterDeletion (its two sides: fixd.tmpl and its mirror, by fixd.py) -/
abbrev fdPre (K N : Nat → Prop) (ps : Nat → Nat) (lf rt : Nat → Option Nat) (lo hi : Nat → Nat) (y : Nat) : Prop := ∀ p0, K p0 → N p0 ∧ lf p0 = none ∧ rt p0 = none ∧ lo y ≤ ps p0 ∧ ps p0 < hi y
abbrev fdPost (V : HEn) (G0 : Gh) (o : Nat) (N : Nat → Prop) (n : Nat) (kv vv : Nat → Option Nat) (ps : Nat → Nat) (x0 x1 : Option Nat) (sz mc : Int32) (es ks x8 : Option Nat) (K : Nat → Prop) : Unit → Gh → Nat → Nat → Prop := fun _ G' c s => c = 0 ∧ s = 0 ∧ ∃ root lf rt pa co lo hi, TNd V G' o N lf rt pa co kv vv ∧ G' o = some (tobj x0 x1 root sz mc es ks x8) ∧ Shp N n root lf rt pa ps lo hi ∧ (∀ p0, K p0 → lf p0 = none ∧ rt p0 = none) ∧ ∀ b, ¬ N b → b ≠ o → G' b = G0 b
abbrev fdK (V : HEn) (o : Nat) (N : Nat → Prop) (n : Nat) (kv vv : Nat → Option Nat) (ps : Nat → Nat) (x0 x1 : Option Nat) (sz mc : Int32) (es ks x8 : Option Nat) (K : Nat → Prop) (G0 : Gh) (m : Nat) (k0 : Gh → Nat → Option Nat → HO Unit) : Prop := ∀ (G : Gh) (nx : Nat) (root : Option Nat) (lf rt pa : Nat → Option Nat) (co : Nat → Int32) (lo hi : Nat → Nat) (y : Nat), TNd V G o N lf rt pa co kv vv → G o = some (tobj x0 x1 root sz mc es ks x8) → Shp N n root lf rt pa ps lo hi → N y → (∀ b, ¬ N b → b ≠ o → G b = G0 b) → fdPre K N ps lf rt lo hi y → (((some y = root ∨ ¬ co y = 1) ∧ 1 ≤ m) ∨ n + 2 ≤ m + (hi y - lo y)) → wH (k0 G nx (some y)) (fdPost V G0 o N n kv vv ps x0 x1 sz mc es ks x8 K)
section T
variable {V : HEn} {o n : Nat} {N : Nat → Prop} {kv vv : Nat → Option Nat}
variable {x0 x1 es ks x8 : Option Nat} {sz mc : Int32} {ps : Nat → Nat}
theorem keepL {root : Option Nat} {lf rt pa : Nat → Option Nat} {lo hi : Nat → Nat} (hs : Shp N n root lf rt pa ps lo hi) {q b p0 : Nat} (hq : N q) (hr : rt q = some b) (h0 : N p0) (h1 : lf p0 = none) (h2 : rt p0 = none) (hb : p0 ≠ b) : rlL lf pa q b p0 = none ∧ rlR lf rt pa q b p0 = none := by
  obtain ⟨s1, s2, s3, s4, s5, s6, s7, s8, s9, s10, s11⟩ := hs
  have : ¬ pa q = some p0 := by
    intro z
    rcases (s10 q p0 hq z).2 with w | w
    · first | (rw [h1] at w; cases w) | (rw [h2] at w; cases w)
    · first | (rw [h1] at w; cases w) | (rw [h2] at w; cases w)
  have : p0 ≠ q := by
    intro z; subst z; rw [h2] at hr; cases hr
  constructor
  · unfold rlL; rw [if_neg hb, if_neg (by intro z; exact absurd z.1 (by assumption))]; exact h1
  · unfold rlR; rw [if_neg (by assumption), if_neg (by intro z; exact absurd z.1 (by assumption))]; exact h2
theorem keepR {root : Option Nat} {lf rt pa : Nat → Option Nat} {lo hi : Nat → Nat} (hs : Shp N n root lf rt pa ps lo hi) {q b p0 : Nat} (hq : N q) (hr : lf q = some b) (h0 : N p0) (h1 : rt p0 = none) (h2 : lf p0 = none) (hb : p0 ≠ b) : rrR rt pa q b p0 = none ∧ rrL lf rt pa q b p0 = none := by
  obtain ⟨s1, s2, s3, s4, s5, s6, s7, s8, s9, s10, s11⟩ := hs
  have : ¬ pa q = some p0 := by
    intro z
    rcases (s10 q p0 hq z).2 with w | w
    · first | (rw [h1] at w; cases w) | (rw [h2] at w; cases w)
    · first | (rw [h1] at w; cases w) | (rw [h2] at w; cases w)
  have : p0 ≠ q := by
    intro z; subst z; rw [h2] at hr; cases hr
  constructor
  · unfold rrR; rw [if_neg hb, if_neg (by intro z; exact absurd z.1 (by assumption))]; exact h1
  · unfold rrL; rw [if_neg (by assumption), if_neg (by intro z; exact absurd z.1 (by assumption))]; exact h2
theorem fixD_143 {G G0 : Gh} {nx m : Nat} {root : Option Nat} {lf rt pa : Nat → Option Nat} {co : Nat → Int32} {lo hi : Nat → Nat} {k0 : Gh → Nat → Option Nat → HO Unit} {K : Nat → Prop} {x q b : Nat} (hb : V.1 ≤ o) (hn : 0 < n) (hm : 1 ≤ m) (h : TNd V G o N lf rt pa co kv vv) (ho : G o = some (tobj x0 x1 root sz mc es ks x8)) (hs : Shp N n root lf rt pa ps lo hi) (hf : ∀ b, ¬ N b → b ≠ o → G b = G0 b)
    (hx : N x) (hq : N q) (e1 : pa x = some q) (e2 : lf q = some x) (e3 : rt q = some b) (hK : fdPre K N ps lf rt lo hi x)
    (hk : fdK V o N n kv vv ps x0 x1 sz mc es ks x8 K G0 m k0) :
    wH (hB_J4_fixAfterDeletion_143 V o k0 G nx (some x) (some b)) (fdPost V G0 o N n kv vv ps x0 x1 sz mc es ks x8 K) := by
  obtain ⟨r1, r2, r3, r4, r5, r6, r7⟩ := hs.ne hq e3
  have fX : ∀ a, some x = some a → N a := fun a e => by cases e; exact hx
  have fQ : ∀ a, some q = some a → N a := fun a e => by cases e; exact hq
  have fB : ∀ a, some b = some a → N a := fun a e => by cases e; exact r1
  have fR : ∀ a, rt b = some a → N a := fun a e => (hs.2.2.2.2.2.2.2.2.1 b a r1 e).1
  have no : ¬ N o := fun z => (h o z).2.2.1 rfl
  unfold hB_J4_fixAfterDeletion_143
  refine w_pOf h fX ?_
  simp only [Option.bind_some, e1]
  refine w_cOf h fQ ?_
  refine w_sCo h fB (h q hq).2.2.2 ?_
  intro G1 h1 k1
  refine w_pOf h1 fX ?_
  simp only [Option.bind_some, e1]
  refine w_sCo h1 fQ (Or.inr rfl) ?_
  intro G2 h2 k2
  refine w_rOf h2 fB ?_
  simp only [Option.bind_some]
  refine w_sCo h2 fR (Or.inr rfl) ?_
  intro G3 h3 k3
  unfold hB_J4_fixAfterDeletion_170
  refine w_pOf h3 fX ?_
  simp only [Option.bind_some, e1]
  have ho3 : G3 o = some (tobj x0 x1 root sz mc es ks x8) := by rw [k3 o no, k2 o no, k1 o no, ho]
  refine w_pos (gC_at ho3) (w_rotL h3 ho3 hb hs hq e3 ?_)
  intro G4 h4 ho4 k4
  refine w_xR ho4 rfl rfl ?_
  unfold hB_J4_fixAfterDeletion_183
  have hs4 := hs.rotL hq e3
  cases er : rlT root pa q b with
  | none => have := hs4.2.2.2.2.1 er; omega
  | some r =>
    obtain ⟨t1, t2, t3, t4⟩ := hs4.2.2.2.1 r er
    rw [er] at hs4 ho4
    refine hk _ _ _ _ _ _ _ _ _ r h4 ho4 hs4 t1 (fun b hbn hbo => ?_) (fun p0 hp0 => ?_) (Or.inl ⟨Or.inl rfl, hm⟩)
    · rw [k4 b hbn hbo, k3 b hbn, k2 b hbn, k1 b hbn]; exact hf b hbn hbo
    · obtain ⟨z1, z2, z3, z4, z5⟩ := hK p0 hp0
      have zb : p0 ≠ b := by
        intro z; subst z
        have := hs.2.2.2.2.2.2.1 q x hq e2
        have := hs.1 p0 z1
        omega
      have zz := keepL hs hq e3 z1 z2 z3 zb
      have := hs.1 p0 z1
      exact ⟨z1, zz.1, zz.2, by omega, by omega⟩
theorem fixD_71 {G G0 : Gh} {nx m : Nat} {root : Option Nat} {lf rt pa : Nat → Option Nat} {co : Nat → Int32} {lo hi : Nat → Nat} {k0 : Gh → Nat → Option Nat → HO Unit} {K : Nat → Prop} {x q : Nat} (hb : V.1 ≤ o) (hn : 0 < n) (hm : 1 ≤ m) (h : TNd V G o N lf rt pa co kv vv) (ho : G o = some (tobj x0 x1 root sz mc es ks x8)) (hs : Shp N n root lf rt pa ps lo hi) (hf : ∀ b, ¬ N b → b ≠ o → G b = G0 b)
    (hx : N x) (hq : N q) (e1 : pa x = some q) (e2 : lf q = some x) (hK : fdPre K N ps lf rt lo hi x) (hM : (¬ co q = 1) ∨ n + 2 ≤ m + (hi q - lo q))
    (hk : fdK V o N n kv vv ps x0 x1 sz mc es ks x8 K G0 m k0) :
    wH (hB_J4_fixAfterDeletion_71 V o k0 G nx (some x) (rt q)) (fdPost V G0 o N n kv vv ps x0 x1 sz mc es ks x8 K) := by
  have fX : ∀ a, some x = some a → N a := fun a e => by cases e; exact hx
  have fQ : ∀ a, some q = some a → N a := fun a e => by cases e; exact hq
  have fS : ∀ a, rt q = some a → N a := fun a e => (hs.2.2.2.2.2.2.2.2.1 q a hq e).1
  have fSL : ∀ a, (rt q).bind lf = some a → N a := by
    intro a e
    cases e3 : rt q with
    | none => rw [e3] at e; cases e
    | some g => rw [e3] at e; exact (hs.2.2.2.2.2.2.1 g a (fS g e3) e).1
  have fSR : ∀ a, (rt q).bind rt = some a → N a := by
    intro a e
    cases e3 : rt q with
    | none => rw [e3] at e; cases e
    | some g => rw [e3] at e; exact (hs.2.2.2.2.2.2.2.2.1 g a (fS g e3) e).1
  have no : ¬ N o := fun z => (h o z).2.2.1 rfl
  have xq := hs.2.2.2.2.2.2.1 q x hq e2
  have bx := hs.1 x hx
  have bq := hs.1 q hq
  have K2 : ∀ b, rt q = some b → ∀ p0, K p0 → p0 ≠ b := by
    intro b eb p0 hp0 z
    subst z
    obtain ⟨z1, z2, z3, z4, z5⟩ := hK p0 hp0
    have := hs.2.2.2.2.2.2.2.2.1 q p0 hq eb
    have := hs.1 p0 z1
    omega
  have L106 : ¬ (cOf co ((rt q).bind lf) = 1 ∧ cOf co ((rt q).bind rt) = 1) → wH (hB_J4_fixAfterDeletion_106 V o k0 G nx (some x) (rt q)) (fdPost V G0 o N n kv vv ps x0 x1 sz mc es ks x8 K) := by
    intro hnb
    obtain ⟨b, eb⟩ : ∃ b, rt q = some b := by
      cases e : rt q with
      | none => rw [e] at hnb; exact absurd ⟨rfl, rfl⟩ hnb
      | some b => exact ⟨b, rfl⟩
    rw [eb] at hnb fSL fSR ⊢
    simp only [Option.bind_some] at hnb fSL fSR
    have hbN := fS b eb
    have fB : ∀ a, some b = some a → N a := fun a e => by cases e; exact hbN
    obtain ⟨r1, r2, r3, r4, r5, r6, r7⟩ := hs.ne hq eb
    unfold hB_J4_fixAfterDeletion_106
    refine w_rOf h fB ?_
    simp only [Option.bind_some]
    refine w_cOf h fSR ?_
    refine w_if (fun c1 => ?_) (fun c1 => fixD_143 hb hn hm h ho hs hf hx hq e1 e2 eb hK hk)
    obtain ⟨c, ec⟩ : ∃ c, lf b = some c := by
      cases e : lf b with
      | none => rw [e] at hnb; exact absurd ⟨rfl, c1⟩ hnb
      | some c => exact ⟨c, rfl⟩
    refine w_lOf h fB ?_
    simp only [Option.bind_some, ec]
    rw [ec] at fSL
    refine w_sCo h fSL (Or.inr rfl) ?_
    intro G1 h1 k1
    refine w_sCo h1 fB (Or.inl rfl) ?_
    intro G2 h2 k2
    have ho2 : G2 o = some (tobj x0 x1 root sz mc es ks x8) := by rw [k2 o no, k1 o no, ho]
    refine w_pos (gC_at ho2) (w_rotR h2 ho2 hb hs hbN ec ?_)
    intro G3 h3 ho3 k3
    have hs3 := hs.rotR hbN ec
    obtain ⟨t1, t2, t3, t4, t5, t6, t7⟩ := hs.ne' hbN ec
    have xc : x ≠ c := by
      intro z; subst z; rw [e1] at t3; cases t3; exact r2 rfl
    have xb : x ≠ b := by
      intro z; subst z
      have := hs.2.2.2.2.2.2.2.2.1 q x hq eb
      omega
    have xr : ¬ rt c = some x := by
      intro z
      have := (t7 x z).2.2.2.1
      rw [e1] at this; cases this; exact (t6 q r3).2.2 rfl
    have ex : rrP rt pa b c x = some q := by
      unfold rrP; rw [if_neg xb, if_neg xc, if_neg xr]; exact e1
    have eq1 : rrR rt pa b c q = some c := by
      unfold rrR; rw [if_neg (t6 q r3).2.2, if_pos ⟨r3, eb⟩]
    have eq2 : rrL lf rt pa b c q = some x := by
      unfold rrL; rw [if_neg (Ne.symm r2), if_neg (by intro z; exact z.2 eb)]; exact e2
    refine w_pOf h3 fX ?_
    simp only [Option.bind_some, ex]
    unfold hB_J4_fixAfterDeletion_139
    refine w_rOf h3 fQ ?_
    simp only [Option.bind_some, eq1]
    refine fixD_143 hb hn hm h3 ho3 hs3 (fun b hbn hbo => ?_) hx hq ex eq2 eq1 (fun p0 hp0 => ?_) hk
    · rw [k3 b hbn hbo, k2 b hbn, k1 b hbn]; exact hf b hbn hbo
    · obtain ⟨z1, z2, z3, z4, z5⟩ := hK p0 hp0
      have zc : p0 ≠ c := by
        intro z; subst z
        have := hs.1 p0 z1
        omega
      have zz := keepR hs hbN ec z1 z3 z2 zc
      refine ⟨z1, zz.2, zz.1, ?_, ?_⟩
      · rw [up_ne _ _ xb]; exact z4
      · rw [up_ne _ _ xc]; exact z5
  unfold hB_J4_fixAfterDeletion_71
  refine w_lOf h fS ?_
  refine w_cOf h fSL ?_
  refine w_if (fun c1 => ?_) (fun c1 => L106 (fun z => c1 z.1))
  refine w_rOf h fS ?_
  refine w_cOf h fSR ?_
  refine w_if (fun c2 => ?_) (fun c2 => L106 (fun z => c2 z.2))
  refine w_sCo h fS (Or.inl rfl) ?_
  intro G1 h1 k1
  refine w_pOf h1 fX ?_
  simp only [Option.bind_some, e1]
  unfold hB_J4_fixAfterDeletion_183
  refine hk _ _ _ _ _ _ _ _ _ q h1 (by rw [k1 o no, ho]) hs hq (fun b hbn hbo => by rw [k1 b hbn]; exact hf b hbn hbo) (fun p0 hp0 => ?_) ?_
  · obtain ⟨z1, z2, z3, z4, z5⟩ := hK p0 hp0
    exact ⟨z1, z2, z3, by omega, by omega⟩
  · rcases hM with hM | hM
    · refine Or.inl ⟨Or.inr ?_, hm⟩
      cases e3 : rt q with
      | none => exact hM
      | some b =>
        have : q ≠ b := Ne.symm (hs.ne hq e3).2.1
        show ¬ va_up co b 0 q = 1
        rw [up_ne _ _ this]; exact hM
    · exact Or.inr hM
theorem fixD_302 {G G0 : Gh} {nx m : Nat} {root : Option Nat} {lf rt pa : Nat → Option Nat} {co : Nat → Int32} {lo hi : Nat → Nat} {k0 : Gh → Nat → Option Nat → HO Unit} {K : Nat → Prop} {x q b : Nat} (hb : V.1 ≤ o) (hn : 0 < n) (hm : 1 ≤ m) (h : TNd V G o N lf rt pa co kv vv) (ho : G o = some (tobj x0 x1 root sz mc es ks x8)) (hs : Shp N n root lf rt pa ps lo hi) (hf : ∀ b, ¬ N b → b ≠ o → G b = G0 b)
    (hx : N x) (hq : N q) (e1 : pa x = some q) (e2 : rt q = some x) (e3 : lf q = some b) (hK : fdPre K N ps lf rt lo hi x)
    (hk : fdK V o N n kv vv ps x0 x1 sz mc es ks x8 K G0 m k0) :
    wH (hB_J4_fixAfterDeletion_302 V o k0 G nx (some x) (some b)) (fdPost V G0 o N n kv vv ps x0 x1 sz mc es ks x8 K) := by
  obtain ⟨r1, r2, r3, r4, r5, r6, r7⟩ := hs.ne' hq e3
  have fX : ∀ a, some x = some a → N a := fun a e => by cases e; exact hx
  have fQ : ∀ a, some q = some a → N a := fun a e => by cases e; exact hq
  have fB : ∀ a, some b = some a → N a := fun a e => by cases e; exact r1
  have fR : ∀ a, lf b = some a → N a := fun a e => (hs.2.2.2.2.2.2.1 b a r1 e).1
  have no : ¬ N o := fun z => (h o z).2.2.1 rfl
  unfold hB_J4_fixAfterDeletion_302
  refine w_pOf h fX ?_
  simp only [Option.bind_some, e1]
  refine w_cOf h fQ ?_
  refine w_sCo h fB (h q hq).2.2.2 ?_
  intro G1 h1 k1
  refine w_pOf h1 fX ?_
  simp only [Option.bind_some, e1]
  refine w_sCo h1 fQ (Or.inr rfl) ?_
  intro G2 h2 k2
  refine w_lOf h2 fB ?_
  simp only [Option.bind_some]
  refine w_sCo h2 fR (Or.inr rfl) ?_
  intro G3 h3 k3
  unfold hB_J4_fixAfterDeletion_329
  refine w_pOf h3 fX ?_
  simp only [Option.bind_some, e1]
  have ho3 : G3 o = some (tobj x0 x1 root sz mc es ks x8) := by rw [k3 o no, k2 o no, k1 o no, ho]
  refine w_pos (gC_at ho3) (w_rotR h3 ho3 hb hs hq e3 ?_)
  intro G4 h4 ho4 k4
  refine w_xR ho4 rfl rfl ?_
  unfold hB_J4_fixAfterDeletion_342
  have hs4 := hs.rotR hq e3
  cases er : rlT root pa q b with
  | none => have := hs4.2.2.2.2.1 er; omega
  | some r =>
    obtain ⟨t1, t2, t3, t4⟩ := hs4.2.2.2.1 r er
    rw [er] at hs4 ho4
    refine hk _ _ _ _ _ _ _ _ _ r h4 ho4 hs4 t1 (fun b hbn hbo => ?_) (fun p0 hp0 => ?_) (Or.inl ⟨Or.inl rfl, hm⟩)
    · rw [k4 b hbn hbo, k3 b hbn, k2 b hbn, k1 b hbn]; exact hf b hbn hbo
    · obtain ⟨z1, z2, z3, z4, z5⟩ := hK p0 hp0
      have zb : p0 ≠ b := by
        intro z; subst z
        have := hs.2.2.2.2.2.2.2.2.1 q x hq e2
        have := hs.1 p0 z1
        omega
      have zz := keepR hs hq e3 z1 z3 z2 zb
      have := hs.1 p0 z1
      exact ⟨z1, zz.2, zz.1, by omega, by omega⟩
theorem fixD_230 {G G0 : Gh} {nx m : Nat} {root : Option Nat} {lf rt pa : Nat → Option Nat} {co : Nat → Int32} {lo hi : Nat → Nat} {k0 : Gh → Nat → Option Nat → HO Unit} {K : Nat → Prop} {x q : Nat} (hb : V.1 ≤ o) (hn : 0 < n) (hm : 1 ≤ m) (h : TNd V G o N lf rt pa co kv vv) (ho : G o = some (tobj x0 x1 root sz mc es ks x8)) (hs : Shp N n root lf rt pa ps lo hi) (hf : ∀ b, ¬ N b → b ≠ o → G b = G0 b)
    (hx : N x) (hq : N q) (e1 : pa x = some q) (e2 : rt q = some x) (hK : fdPre K N ps lf rt lo hi x) (hM : (¬ co q = 1) ∨ n + 2 ≤ m + (hi q - lo q))
    (hk : fdK V o N n kv vv ps x0 x1 sz mc es ks x8 K G0 m k0) :
    wH (hB_J4_fixAfterDeletion_230 V o k0 G nx (some x) (lf q)) (fdPost V G0 o N n kv vv ps x0 x1 sz mc es ks x8 K) := by
  have fX : ∀ a, some x = some a → N a := fun a e => by cases e; exact hx
  have fQ : ∀ a, some q = some a → N a := fun a e => by cases e; exact hq
  have fS : ∀ a, lf q = some a → N a := fun a e => (hs.2.2.2.2.2.2.1 q a hq e).1
  have fSR : ∀ a, (lf q).bind rt = some a → N a := by
    intro a e
    cases e3 : lf q with
    | none => rw [e3] at e; cases e
    | some g => rw [e3] at e; exact (hs.2.2.2.2.2.2.2.2.1 g a (fS g e3) e).1
  have fSL : ∀ a, (lf q).bind lf = some a → N a := by
    intro a e
    cases e3 : lf q with
    | none => rw [e3] at e; cases e
    | some g => rw [e3] at e; exact (hs.2.2.2.2.2.2.1 g a (fS g e3) e).1
  have no : ¬ N o := fun z => (h o z).2.2.1 rfl
  have xq := hs.2.2.2.2.2.2.2.2.1 q x hq e2
  have bx := hs.1 x hx
  have bq := hs.1 q hq
  have K2 : ∀ b, lf q = some b → ∀ p0, K p0 → p0 ≠ b := by
    intro b eb p0 hp0 z
    subst z
    obtain ⟨z1, z2, z3, z4, z5⟩ := hK p0 hp0
    have := hs.2.2.2.2.2.2.1 q p0 hq eb
    have := hs.1 p0 z1
    omega
  have L106 : ¬ (cOf co ((lf q).bind rt) = 1 ∧ cOf co ((lf q).bind lf) = 1) → wH (hB_J4_fixAfterDeletion_265 V o k0 G nx (some x) (lf q)) (fdPost V G0 o N n kv vv ps x0 x1 sz mc es ks x8 K) := by
    intro hnb
    obtain ⟨b, eb⟩ : ∃ b, lf q = some b := by
      cases e : lf q with
      | none => rw [e] at hnb; exact absurd ⟨rfl, rfl⟩ hnb
      | some b => exact ⟨b, rfl⟩
    rw [eb] at hnb fSR fSL ⊢
    simp only [Option.bind_some] at hnb fSR fSL
    have hbN := fS b eb
    have fB : ∀ a, some b = some a → N a := fun a e => by cases e; exact hbN
    obtain ⟨r1, r2, r3, r4, r5, r6, r7⟩ := hs.ne' hq eb
    unfold hB_J4_fixAfterDeletion_265
    refine w_lOf h fB ?_
    simp only [Option.bind_some]
    refine w_cOf h fSL ?_
    refine w_if (fun c1 => ?_) (fun c1 => fixD_302 hb hn hm h ho hs hf hx hq e1 e2 eb hK hk)
    obtain ⟨c, ec⟩ : ∃ c, rt b = some c := by
      cases e : rt b with
      | none => rw [e] at hnb; exact absurd ⟨rfl, c1⟩ hnb
      | some c => exact ⟨c, rfl⟩
    refine w_rOf h fB ?_
    simp only [Option.bind_some, ec]
    rw [ec] at fSR
    refine w_sCo h fSR (Or.inr rfl) ?_
    intro G1 h1 k1
    refine w_sCo h1 fB (Or.inl rfl) ?_
    intro G2 h2 k2
    have ho2 : G2 o = some (tobj x0 x1 root sz mc es ks x8) := by rw [k2 o no, k1 o no, ho]
    refine w_pos (gC_at ho2) (w_rotL h2 ho2 hb hs hbN ec ?_)
    intro G3 h3 ho3 k3
    have hs3 := hs.rotL hbN ec
    obtain ⟨t1, t2, t3, t4, t5, t6, t7⟩ := hs.ne hbN ec
    have xc : x ≠ c := by
      intro z; subst z; rw [e1] at t3; cases t3; exact r2 rfl
    have xb : x ≠ b := by
      intro z; subst z
      have := hs.2.2.2.2.2.2.1 q x hq eb
      omega
    have xr : ¬ lf c = some x := by
      intro z
      have := (t7 x z).2.2.2.1
      rw [e1] at this; cases this; exact (t6 q r3).2.2 rfl
    have ex : rlP lf pa b c x = some q := by
      unfold rlP; rw [if_neg xb, if_neg xc, if_neg xr]; exact e1
    have eq1 : rlL lf pa b c q = some c := by
      unfold rlL; rw [if_neg (t6 q r3).2.2, if_pos ⟨r3, eb⟩]
    have eq2 : rlR lf rt pa b c q = some x := by
      unfold rlR; rw [if_neg (Ne.symm r2), if_neg (by intro z; exact z.2 eb)]; exact e2
    refine w_pOf h3 fX ?_
    simp only [Option.bind_some, ex]
    unfold hB_J4_fixAfterDeletion_298
    refine w_lOf h3 fQ ?_
    simp only [Option.bind_some, eq1]
    refine fixD_302 hb hn hm h3 ho3 hs3 (fun b hbn hbo => ?_) hx hq ex eq2 eq1 (fun p0 hp0 => ?_) hk
    · rw [k3 b hbn hbo, k2 b hbn, k1 b hbn]; exact hf b hbn hbo
    · obtain ⟨z1, z2, z3, z4, z5⟩ := hK p0 hp0
      have zc : p0 ≠ c := by
        intro z; subst z
        have := hs.1 p0 z1
        omega
      have zz := keepL hs hbN ec z1 z2 z3 zc
      refine ⟨z1, zz.1, zz.2, ?_, ?_⟩
      · rw [up_ne _ _ xc]; exact z4
      · rw [up_ne _ _ xb]; exact z5
  unfold hB_J4_fixAfterDeletion_230
  refine w_rOf h fS ?_
  refine w_cOf h fSR ?_
  refine w_if (fun c1 => ?_) (fun c1 => L106 (fun z => c1 z.1))
  refine w_lOf h fS ?_
  refine w_cOf h fSL ?_
  refine w_if (fun c2 => ?_) (fun c2 => L106 (fun z => c2 z.2))
  refine w_sCo h fS (Or.inl rfl) ?_
  intro G1 h1 k1
  refine w_pOf h1 fX ?_
  simp only [Option.bind_some, e1]
  unfold hB_J4_fixAfterDeletion_342
  refine hk _ _ _ _ _ _ _ _ _ q h1 (by rw [k1 o no, ho]) hs hq (fun b hbn hbo => by rw [k1 b hbn]; exact hf b hbn hbo) (fun p0 hp0 => ?_) ?_
  · obtain ⟨z1, z2, z3, z4, z5⟩ := hK p0 hp0
    exact ⟨z1, z2, z3, by omega, by omega⟩
  · rcases hM with hM | hM
    · refine Or.inl ⟨Or.inr ?_, hm⟩
      cases e3 : lf q with
      | none => exact hM
      | some b =>
        have : q ≠ b := Ne.symm (hs.ne' hq e3).2.1
        show ¬ va_up co b 0 q = 1
        rw [up_ne _ _ this]; exact hM
    · exact Or.inr hM
theorem fixD_loop {G0 : Gh} {K : Nat → Prop} (hb : V.1 ≤ o) (hn : 0 < n) : ∀ (m : Nat), fdK V o N n kv vv ps x0 x1 sz mc es ks x8 K G0 m (hL_J4_fixAfterDeletion_0 V o m) := by
  intro m
  induction m with
  | zero =>
    intro G nx root lf rt pa co lo hi x h ho hs hx hf hK hm
    have := hs.1 x hx
    omega
  | succ m ih =>
    intro G nx root lf rt pa co lo hi x h ho hs hx hf hK hm
    have no : ¬ N o := fun z => (h o z).2.2.1 rfl
    have fX : ∀ a, some x = some a → N a := fun a e => by cases e; exact hx
    have fin : ∀ nx, wH (hB_J4_fixAfterDeletion_345 V o G nx (some x)) (fdPost V G0 o N n kv vv ps x0 x1 sz mc es ks x8 K) := by
      intro nx
      unfold hB_J4_fixAfterDeletion_345
      refine w_sCo h fX (Or.inr rfl) ?_
      intro G1 h1 k1
      refine w_ret ⟨rfl, rfl, root, lf, rt, pa, _, lo, hi, h1, by rw [k1 o no, ho], hs, fun p0 hp0 => ⟨(hK p0 hp0).2.1, (hK p0 hp0).2.2.1⟩, fun b hbn hbo => ?_⟩
      rw [k1 b hbn]; exact hf b hbn hbo
    rw [hL_J4_fixAfterDeletion_0]
    refine w_xR ho rfl rfl ?_
    refine w_if (fun c1 => fin _) (fun c1 => ?_)
    obtain ⟨q, hq, qN, qc, qx, qm⟩ := hs.par hx c1
    refine w_cOf h fX ?_
    refine w_if (fun c2 => ?_) (fun c2 => fin _)
    have c2' : co x = 1 := c2
    have hm' : n + 2 ≤ m + 1 + (hi x - lo x) := by
      rcases hm with ⟨hm | hm, -⟩ | hm
      · exact absurd hm c1
      · exact absurd c2' hm
      · exact hm
    have m1 : 1 ≤ m := by
      have := hs.1 x hx
      omega
    have fQ : ∀ a, some q = some a → N a := fun a e => by cases e; exact qN
    refine w_pOf h fX ?_
    simp only [Option.bind_some, hq]
    refine w_lOf h fQ ?_
    simp only [Option.bind_some]
    refine w_if (fun c3 => ?_) (fun c3 => ?_)
    · have fS : ∀ a, rt q = some a → N a := fun a e => (hs.2.2.2.2.2.2.2.2.1 q a qN e).1
      refine w_pOf h fX ?_
      simp only [Option.bind_some, hq]
      refine w_rOf h fQ ?_
      simp only [Option.bind_some]
      refine w_cOf h fS ?_
      refine w_if (fun c4 => ?_) (fun c4 => fixD_71 hb hn m1 h ho hs hf hx qN hq c3.symm hK (Or.inr (by omega)) ih)
      obtain ⟨b, eb⟩ : ∃ b, rt q = some b := by
        cases e : rt q with
        | none => rw [e] at c4; cases c4
        | some b => exact ⟨b, rfl⟩
      obtain ⟨r1, r2, r3, r4, r5, r6, r7⟩ := hs.ne qN eb
      refine w_sCo h fS (Or.inr rfl) ?_
      intro G1 h1 k1
      unfold hB_J4_fixAfterDeletion_47
      refine w_pOf h1 fX ?_
      simp only [Option.bind_some, hq]
      refine w_sCo h1 fQ (Or.inl rfl) ?_
      intro G2 h2 k2
      refine w_pOf h2 fX ?_
      simp only [Option.bind_some, hq]
      have ho2 : G2 o = some (tobj x0 x1 root sz mc es ks x8) := by rw [k2 o no, k1 o no, ho]
      refine w_pos (gC_at ho2) (w_rotL h2 ho2 hb hs qN eb ?_)
      intro G3 h3 ho3 k3
      have hs3 := hs.rotL qN eb
      have xb : x ≠ b := by
        intro z; subst z
        have t1 := hs.2.2.2.2.2.2.1 q x qN c3.symm
        have t2 := hs.1 x hx
        omega
      have xl : ¬ lf b = some x := by
        intro z
        have := (r7 x z).2.2.2.1
        rw [hq] at this; cases this; exact r2 rfl
      have ex : rlP lf pa q b x = some q := by
        unfold rlP; rw [if_neg (Ne.symm qx), if_neg xb, if_neg xl]; exact hq
      have el : rlL lf pa q b q = some x := by
        unfold rlL; rw [if_neg (Ne.symm r2), if_neg (by intro z; exact (r6 q z.1).2.1 rfl)]; exact c3.symm
      refine w_pOf h3 fX ?_
      simp only [Option.bind_some, ex]
      refine w_rOf h3 fQ ?_
      simp only [Option.bind_some]
      refine fixD_71 hb hn m1 h3 ho3 hs3 (fun b hbn hbo => ?_) hx qN ex el (fun p0 hp0 => ?_) (Or.inl ?_) ih
      · rw [k3 b hbn hbo, k2 b hbn, k1 b hbn]; exact hf b hbn hbo
      · obtain ⟨z1, z2, z3, z4, z5⟩ := hK p0 hp0
        have zb : p0 ≠ b := by
          intro z; subst z
          have t1 := hs.2.2.2.2.2.2.1 q x qN c3.symm
          have := hs.1 p0 z1
          omega
        have zz := keepL hs qN eb z1 z2 z3 zb
        refine ⟨z1, zz.1, zz.2, ?_, ?_⟩
        · rw [up_ne _ _ xb]; exact z4
        · rw [up_ne _ _ (Ne.symm qx)]; exact z5
      · show ¬ va_up _ q 0 q = 1
        rw [up_eq]; decide
    · have c3' : rt q = some x := by
        rcases qc with w | w
        · exact absurd w.symm c3
        · exact w
      have fS : ∀ a, lf q = some a → N a := fun a e => (hs.2.2.2.2.2.2.1 q a qN e).1
      refine w_pOf h fX ?_
      simp only [Option.bind_some, hq]
      refine w_lOf h fQ ?_
      simp only [Option.bind_some]
      refine w_cOf h fS ?_
      refine w_if (fun c4 => ?_) (fun c4 => fixD_230 hb hn m1 h ho hs hf hx qN hq c3' hK (Or.inr (by omega)) ih)
      obtain ⟨b, eb⟩ : ∃ b, lf q = some b := by
        cases e : lf q with
        | none => rw [e] at c4; cases c4
        | some b => exact ⟨b, rfl⟩
      obtain ⟨r1, r2, r3, r4, r5, r6, r7⟩ := hs.ne' qN eb
      refine w_sCo h fS (Or.inr rfl) ?_
      intro G1 h1 k1
      unfold hB_J4_fixAfterDeletion_206
      refine w_pOf h1 fX ?_
      simp only [Option.bind_some, hq]
      refine w_sCo h1 fQ (Or.inl rfl) ?_
      intro G2 h2 k2
      refine w_pOf h2 fX ?_
      simp only [Option.bind_some, hq]
      have ho2 : G2 o = some (tobj x0 x1 root sz mc es ks x8) := by rw [k2 o no, k1 o no, ho]
      refine w_pos (gC_at ho2) (w_rotR h2 ho2 hb hs qN eb ?_)
      intro G3 h3 ho3 k3
      have hs3 := hs.rotR qN eb
      have xb : x ≠ b := by
        intro z; subst z
        have t1 := hs.2.2.2.2.2.2.2.2.1 q x qN c3'
        have t2 := hs.1 x hx
        omega
      have xl : ¬ rt b = some x := by
        intro z
        have := (r7 x z).2.2.2.1
        rw [hq] at this; cases this; exact r2 rfl
      have ex : rrP rt pa q b x = some q := by
        unfold rrP; rw [if_neg (Ne.symm qx), if_neg xb, if_neg xl]; exact hq
      have el : rrR rt pa q b q = some x := by
        unfold rrR; rw [if_neg (Ne.symm r2), if_neg (by intro z; exact (r6 q z.1).2.1 rfl)]; exact c3'
      refine w_pOf h3 fX ?_
      simp only [Option.bind_some, ex]
      refine w_lOf h3 fQ ?_
      simp only [Option.bind_some]
      refine fixD_230 hb hn m1 h3 ho3 hs3 (fun b hbn hbo => ?_) hx qN ex el (fun p0 hp0 => ?_) (Or.inl ?_) ih
      · rw [k3 b hbn hbo, k2 b hbn, k1 b hbn]; exact hf b hbn hbo
      · obtain ⟨z1, z2, z3, z4, z5⟩ := hK p0 hp0
        have zb : p0 ≠ b := by
          intro z; subst z
          have t1 := hs.2.2.2.2.2.2.2.2.1 q x qN c3'
          have := hs.1 p0 z1
          omega
        have zz := keepR hs qN eb z1 z3 z2 zb
        refine ⟨z1, zz.2, zz.1, ?_, ?_⟩
        · rw [up_ne _ _ (Ne.symm qx)]; exact z4
        · rw [up_ne _ _ xb]; exact z5
      · show ¬ va_up _ q 0 q = 1
        rw [up_eq]; decide
theorem fixD_at {G : Gh} {nx x : Nat} {root : Option Nat} {lf rt pa : Nat → Option Nat} {co : Nat → Int32} {lo hi : Nat → Nat} {K : Nat → Prop} (hb : V.1 ≤ o) (hn : 0 < n) (hN : n + 2 ≤ V.2.2.2.2) (h : TNd V G o N lf rt pa co kv vv) (ho : G o = some (tobj x0 x1 root sz mc es ks x8)) (hs : Shp N n root lf rt pa ps lo hi) (hx : N x) (hK : fdPre K N ps lf rt lo hi x) :
    wH (hF_J4_fixAfterDeletion V G nx o (some x)) (fdPost V G o N n kv vv ps x0 x1 sz mc es ks x8 K) :=
  fixD_loop hb hn _ G nx root lf rt pa co lo hi x h ho hs hx (fun _ _ _ => rfl) hK (Or.inr (by omega))
end T

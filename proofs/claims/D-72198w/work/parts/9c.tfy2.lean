/-! PURE 33: HashMap.TreeNode.treeify, whole -/
theorem Shp.one (e : Nat) : Shp (fun a => a = e) 1 (some e) (fun _ => none) (fun _ => none) (fun _ => none) (fun _ => 0) (fun _ => 0) (fun _ => 1) := by
  refine ⟨fun a _ => ⟨Nat.le_refl _, Nat.zero_lt_one, Nat.le_refl _⟩, fun a b ha hb _ => ha.trans hb.symm, fun i hi => ⟨e, rfl, (show 0 = i by omega)⟩, fun r hr => ⟨(Option.some.inj hr).symm, rfl, rfl, rfl⟩, fun h => (by cases h), fun _ _ _ => rfl, fun _ _ _ h => (by cases h), fun _ _ _ => rfl, fun _ _ _ h => (by cases h), fun _ _ _ h => (by cases h), fun a ha _ => by rw [ha]⟩
/-- a bin that is a tree -/
def TB (V : HEn) (G : Gh) (A : Nat → Prop) (n : Nat) (D : Nat → Int32 × Option Nat × Option Nat) (ks : Nat → List Nat) (r : Nat) : Prop := ∃ nxt pv lf rt pa rd ps lo hi, UNd V G A D nxt pv lf rt pa rd ∧ Shp A n (some r) lf rt pa ps lo hi ∧ Srd A ks ps ∧ Cl A nxt pv ∧ nxt r ≠ none
section U
variable {V : HEn} {A : Nat → Prop} {D : Nat → Int32 × Option Nat × Option Nat} {nxt pv : Nat → Option Nat} {ko kd : Nat → Nat} {ks : Nat → List Nat} {tb : Nat → Option Nat}
theorem TK.keep {G G' : Gh} (h : TK V G A D ko kd ks) (hs : ∀ a, A a → ¬ A (ko a) ∧ ¬ A (kd a)) (hk : ∀ b, ¬ A b → G' b = G b) : TK V G' A D ko kd ks := fun a ha => ⟨(h a ha).1, (h a ha).2.1.keep (hk _ (hs a ha).1) (hk _ (hs a ha).2), (h a ha).2.2⟩
theorem TK.sub {G : Gh} {N : Nat → Prop} (h : TK V G A D ko kd ks) (hs : ∀ a, N a → A a) : TK V G N D ko kd ks := fun a ha => h a (hs a ha)
abbrev TfQ (V : HEn) (G : Gh) (A : Nat → Prop) (n : Nat) (D : Nat → Int32 × Option Nat × Option Nat) (ks : Nat → List Nat) (td m i : Nat) (tb : Nat → Option Nat) : Unit → Gh → Nat → Nat → Prop := fun _ G' c s => c = 0 ∧ s = 0 ∧ (∃ r, A r ∧ TB V G' A n D ks r ∧ G' td = some (.inl (V.2.1 4, m, .inr (.inr (.inr (.inr (va_up tb i (some r)))))))) ∧ ∀ b, ¬ A b → b ≠ td → G' b = G b
theorem tfy_loop {o td m i hd len : Nat} {G0 : Gh} (hV : 1200 ≤ V.2.2.2.2) (hlen : len < 300) (hm : pw m) (hb : V.1 ≤ td) (hA : ¬ A td) (hi : tb i = some hd) (hAi : ∀ a, A a → ix m (D a).1 = i) (hhd : A hd) (hnh : nxt hd ≠ none) (hcl : Cl A nxt pv) (hdk : ∀ a b, A a → A b → ks a = ks b → a = b) (hst : ∀ a, A a → ¬ A (ko a) ∧ ¬ A (kd a)) (hT : TK V G0 A D ko kd ks) (htd : G0 td = some (.inl (V.2.1 4, m, .inr (.inr (.inr (.inr tb)))))) :
    ∀ (rest : List Nat) (fu n nx r0 : Nat) (x : Option Nat) (N : Nat → Prop) (G : Gh) (ps : Nat → Nat), rest.length + 1 ≤ fu → n + rest.length = len → Chn nxt x rest → rest.Nodup → (∀ a, A a ↔ (N a ∨ a ∈ rest)) → (∀ a ∈ rest, ¬ N a) → (∀ a ∈ rest, V.1 ≤ a ∧ ∃ p l r c, G a = some (tcell (D a) (nxt a) (pv a) p l r c)) → TInv V G N n D nxt pv (some r0) ps → Srd N ks ps → (∀ b, ¬ A b → G b = G0 b) →
    wH (hL_J42_treeify_4 V o fu G nx (some td) (some r0) x) (TfQ V G0 A len D ks td m i tb) := by
  intro rest
  induction rest with
  | nil =>
    intro fu n nx r0 x N G ps hf hn hch _ hN _ _ hI hS hk
    obtain ⟨fu, rfl⟩ := Nat.exists_eq_succ_of_ne_zero (show fu ≠ 0 by omega)
    have e : N = A := funext fun a => propext ⟨fun z => (hN a).mpr (Or.inl z), fun z => by rcases (hN a).mp z with w | w; exact w; simp at w⟩
    subst e
    have hx : x = none := hch
    subst hx
    have : n = len := by simpa using hn
    subst this
    obtain ⟨lf, rt, pa, rd, lo, hi', u1, u2⟩ := hI
    have rN := (u2.2.2.2.1 r0 rfl).1
    rw [hL_J42_treeify_4]
    refine w_pos rfl ?_
    refine w_call0' (P := fun _ G' => (∃ nxt' pv', UNd V G' N D nxt' pv' lf rt pa rd ∧ Cl N nxt' pv' ∧ nxt' r0 ≠ none) ∧ G' td = some (.inl (V.2.1 4, m, .inr (.inr (.inr (.inr (va_up tb (ix m (D r0).1) (some r0))))))) ∧ ∀ b, ¬ N b → b ≠ td → G' b = G b) (mrf_at (f := hd) u1 hcl hm (by rw [hk td hA]; exact htd) hb rN hhd (by rw [hAi r0 rN]; exact hi) hA hnh) ?_
    rintro - G' ⟨⟨nxt', pv', v1, v2, v3⟩, v4, v5⟩
    rw [hAi r0 rN] at v4
    exact w_ret ⟨rfl, rfl, ⟨r0, rN, ⟨_, _, _, _, _, _, _, _, _, v1, u2, hS, v2, v3⟩, v4⟩, fun b b1 b2 => (v5 b b1 b2).trans (hk b b1)⟩
  | cons e t ih =>
    intro fu n nx r0 x N G ps hf hn hch hnd hN hdis hcell hI hS hk
    obtain ⟨fu, rfl⟩ := Nat.exists_eq_succ_of_ne_zero (show fu ≠ 0 by omega)
    obtain ⟨hx, hch2⟩ := hch
    subst hx
    have eA : A e := (hN e).mpr (Or.inr (by simp))
    have eN : ¬ N e := hdis e (by simp)
    obtain ⟨eb, p, l, r, c, ec⟩ := hcell e (by simp)
    obtain ⟨lf, rt, pa, rd, lo, hi', u1, u2⟩ := hI
    obtain ⟨nd1, nd2⟩ := List.nodup_cons.mp hnd
    have hlen2 : n + t.length + 1 = len := by simp at hn; omega
    rw [hL_J42_treeify_4]
    refine w_neg (by simp) (w_some (w_xR ec rfl rfl (w_pos ?_ (w_xF ec rfl (Nat.le_of_ble_eq_true rfl) eb rfl (w_xF (gset_eq _ _ _) rfl (Nat.le_of_ble_eq_true rfl) eb rfl (w_neg (by simp) ?_))))))
    · cases en : nxt e with
      | none => rfl
      | some y =>
        have yA : A y := (hcl e eA).1 y en
        rcases (hN y).mp yA with w | w
        · exact gok_at (u1 y w).1 (by simp)
        · obtain ⟨-, p', l', r', c', yc⟩ := hcell y w
          exact gok_at yc (by simp)
    · -- the cell is laid bare
      have hT2 : TK V (gset (gset G e (tcell (D e) (nxt e) (pv e) p l none c)) e (tcell (D e) (nxt e) (pv e) p none none c)) A D ko kd ks := hT.keep hst (fun b hb => by
        have : b ≠ e := fun z => hb (z ▸ eA)
        rw [gset_ne _ _ this, gset_ne _ _ this]; exact hk b hb)
      have cell2 := gset_eq (gset G e (tcell (D e) (nxt e) (pv e) p l none c)) e (tcell (D e) (nxt e) (pv e) p none none c)
      have k2 : ∀ b, b ≠ e → gset (gset G e (tcell (D e) (nxt e) (pv e) p l none c)) e (tcell (D e) (nxt e) (pv e) p none none c) b = G b := fun b hb => by rw [gset_ne _ _ hb, gset_ne _ _ hb]
      refine w_xR cell2 rfl rfl (w_xI cell2 rfl rfl ?_)
      show wH (hL_J42_treeify_64 V o (hL_J42_treeify_4 V o fu) V.2.2.2.2 (gset (gset G e (tcell (D e) (nxt e) (pv e) p l none c)) e (tcell (D e) (nxt e) (pv e) p none none c)) nx (some td) (some r0) (some e) (nxt e) (D e).2.1 (D e).1 none (some r0)) _
      generalize hG2 : gset (gset G e (tcell (D e) (nxt e) (pv e) p l none c)) e (tcell (D e) (nxt e) (pv e) p none none c) = G2 at hT2 cell2 k2 ⊢
      clear hG2
      obtain ⟨t1, t2, t3⟩ := hT2 e eA
      rw [t1, t3]
      have u1' : UNd V G2 N D nxt pv lf rt pa rd := u1.keep (fun a ha => k2 a (fun z => eN (z ▸ ha)))
      obtain ⟨g, g1, g2⟩ := gap_ex u2.2.2.1 u2.2.1 hS (ks e)
      have hab : ∀ a, N a → ks a ≠ ks e := fun a ha z => eN (hdk a e ((hN a).mpr (Or.inl ha)) eA z ▸ ha)
      obtain ⟨q1, q2, q3, q4⟩ := u2.2.2.2.1 r0 rfl
      have sub : ∀ a, inN N e a → A a := fun a ha => by rcases ha with z | z; exact (hN a).mpr (Or.inl z); exact z ▸ eA
      refine ins_loop (g := g) hV (by omega) u1' u2 (hT2.sub sub) eN cell2 eb g2 hab ?_ n V.2.2.2.2 r0 nx none q1 (by omega) (by omega) (by omega) (by omega) (Or.inl rfl)
      intro G' q nx' hI' hf'
      obtain ⟨r1, rfl⟩ : ∃ r1, q = some r1 := by
        obtain ⟨_, _, _, _, _, _, _, z⟩ := hI'
        cases q with
        | none => have := z.2.2.2.2.1 rfl; omega
        | some r1 => exact ⟨r1, rfl⟩
      have hS' := srtK_ins (e := e) (g := g) (s := ks e) (fun a ha => by have := u2.1 a ha; omega) eN hS g2 hab
      have eks : va_up ks e (ks e) = ks := by
        funext a
        by_cases ca : a = e
        · subst ca; rw [up_eq]
        · rw [up_ne _ _ ca]
      rw [eks] at hS'
      refine ih fu (n + 1) nx' r1 (nxt e) (inN N e) G' (inP ps e g) (by simp at hf; omega) (by omega) hch2 nd2 (fun a => ?_) (fun a ha z => ?_) (fun a ha => ?_) hI' hS' (fun b hb => ?_)
      · rw [hN a]
        simp only [inN, List.mem_cons]
        constructor
        · rintro (z | z | z)
          · exact Or.inl (Or.inl z)
          · exact Or.inl (Or.inr z)
          · exact Or.inr z
        · rintro ((z | z) | z)
          · exact Or.inl z
          · exact Or.inr (Or.inl z)
          · exact Or.inr (Or.inr z)
      · rcases z with z | z
        · exact hdis a (by simp [ha]) z
        · exact nd1 (z ▸ ha)
      · have ae : a ≠ e := fun z => nd1 (z ▸ ha)
        have aN : ¬ inN N e a := by rintro (z | z); exact hdis a (by simp [ha]) z; exact ae z
        rw [hf' a aN, k2 a ae]
        exact hcell a (by simp [ha])
      · rw [hf' b (fun z => hb (sub b z)), k2 b (fun z => hb (z ▸ eA))]
        exact hk b hb
theorem tfy_at {o td m i nx : Nat} {L : List Nat} {G : Gh} (hV : 1200 ≤ V.2.2.2.2) (hlen : L.length < 300) (hm : pw m) (hb : V.1 ≤ td) (hA : ¬ td ∈ L) (hi : tb i = some o) (hAi : ∀ a, a ∈ L → ix m (D a).1 = i) (hch : Chn nxt (some o) L) (hnd : L.Nodup) (hnh : nxt o ≠ none) (hcl : Cl (· ∈ L) nxt pv) (hdk : ∀ a b, a ∈ L → b ∈ L → ks a = ks b → a = b) (hst : ∀ a, a ∈ L → ¬ ko a ∈ L ∧ ¬ kd a ∈ L) (hT : TK V G (· ∈ L) D ko kd ks) (htd : G td = some (.inl (V.2.1 4, m, .inr (.inr (.inr (.inr tb)))))) (hcell : ∀ a ∈ L, V.1 ≤ a ∧ ∃ p l r c, G a = some (tcell (D a) (nxt a) (pv a) p l r c)) :
    wH (hF_J42_treeify V G nx o (some td)) (TfQ V G (· ∈ L) L.length D ks td m i tb) := by
  unfold hF_J42_treeify
  obtain ⟨fu, hfu⟩ := Nat.exists_eq_succ_of_ne_zero (show V.2.2.2.2 ≠ 0 by omega)
  rw [hfu, hL_J42_treeify_4]
  cases L with
  | nil => cases hch
  | cons e t =>
    obtain ⟨hx, hch2⟩ := hch
    cases hx
    obtain ⟨eb, p, l, r, c, ec⟩ := hcell o (by simp)
    obtain ⟨nd1, nd2⟩ := List.nodup_cons.mp hnd
    refine w_neg (by simp) (w_some (w_xR ec rfl rfl (w_pos ?_ (w_xF ec rfl (Nat.le_of_ble_eq_true rfl) eb rfl (w_xF (gset_eq _ _ _) rfl (Nat.le_of_ble_eq_true rfl) eb rfl (w_pos rfl (w_xF (gset_eq _ _ _) rfl (Nat.le_of_ble_eq_true rfl) eb rfl (w_xF (gset_eq _ _ _) rfl (Nat.le_of_ble_eq_true rfl) eb rfl ?_))))))))
    · cases en : nxt o with
      | none => rfl
      | some y =>
        obtain ⟨-, p', l', r', c', yc⟩ := hcell y ((hcl o (by simp)).1 y en)
        exact gok_at yc (by simp)
    · unfold hB_J42_treeify_209
      refine tfy_loop (G0 := G) (hd := o) (ko := ko) (kd := kd) hV hlen hm hb hA hi hAi (by simp) hnh hcl hdk hst hT htd t fu 1 nx o (nxt o) (fun a => a = o) _ (fun _ => 0) (by simp at hlen; omega) (by simp; omega) hch2 nd2 (fun a => by simp) (fun a ha z => nd1 (z ▸ ha)) (fun a ha => ?_) ⟨fun _ => none, fun _ => none, fun _ => none, fun _ => 0, fun _ => 0, fun _ => 1, ?_, Shp.one o⟩ (fun a b _ _ z => absurd z (by simp)) (fun b hb => ?_)
      · have ae : a ≠ o := fun z => nd1 (z ▸ ha)
        simp only [gset_ne _ _ ae]
        exact hcell a (by simp [ha])
      · intro a ha
        rw [ha]
        exact ⟨gset_eq _ _ _, eb⟩
      · have ae : b ≠ o := fun z => hb (by simp [z])
        simp only [gset_ne _ _ ae]
end U

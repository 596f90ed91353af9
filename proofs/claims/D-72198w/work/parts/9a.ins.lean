/-! PURE 31: a new leaf in a tree of texts; moveRootToFront -/
section S
variable {N : Nat → Prop} {n : Nat} {root : Option Nat} {lf rt pa : Nat → Option Nat} {ps lo hi : Nat → Nat}
theorem Shp.gap (h : Shp N n root lf rt pa ps lo hi) {p q : Nat} (hp : N p) (hq : N q) (e : ps q + 1 = ps p) (hl : lf p = none) (hr : rt q = none) : False := by
  obtain ⟨h1, h2, h3, h4, h5, h6, h7, h8, h9, h10, h11⟩ := h
  have key : ∀ k r, N r → hi r - lo r ≤ k → lo r ≤ ps q → ps p < hi r → False := by
    intro k
    induction k with
    | zero => intro r hr0 hk a b; have := h1 r hr0; omega
    | succ k ih =>
      intro r hr0 hk a b
      have b0 := h1 r hr0
      rcases Nat.lt_trichotomy (ps r) (ps q) with c | c | c
      · cases er : rt r with
        | none => have := h8 r hr0 er; omega
        | some d =>
          obtain ⟨d1, d2, d3, d4⟩ := h9 r d hr0 er
          exact ih d d1 (by omega) (by omega) (by omega)
      · have := h2 r q hr0 hq c
        subst this
        have := h8 r hr0 hr
        omega
      · rcases Nat.lt_or_ge (ps p) (ps r) with c2 | c2
        · cases el : lf r with
          | none => have := h6 r hr0 el; omega
          | some d =>
            obtain ⟨d1, d2, d3, d4⟩ := h7 r d hr0 el
            exact ih d d1 (by omega) (by omega) (by omega)
        · have := h2 r p hr0 hp (by omega)
          subst this
          have := h6 r hr0 hl
          omega
  cases er : root with
  | none => have := h5 er; have := h1 p hp; omega
  | some r =>
    obtain ⟨r1, r2, r3, r4⟩ := h4 r er
    exact key n r r1 (by omega) (by omega) (by have := h1 p hp; omega)
theorem gap_ex {ks : Nat → List Nat} (h3 : ∀ i, i < n → ∃ a, N a ∧ ps a = i) (h2 : ∀ a b, N a → N b → ps a = ps b → a = b) (hS : ∀ a b, N a → N b → ps a < ps b → kLt (ks a) (ks b)) (s : List Nat) : ∃ g, g ≤ n ∧ ∀ a, N a → ps a < n → (ps a < g ↔ kLt (ks a) s) := by
  have key : ∀ k, k ≤ n → ∃ g, g ≤ k ∧ ∀ a, N a → ps a < k → (ps a < g ↔ kLt (ks a) s) := by
    intro k
    induction k with
    | zero => intro _; exact ⟨0, Nat.le_refl _, fun a _ h => absurd h (Nat.not_lt_zero _)⟩
    | succ k ih =>
      intro hk
      obtain ⟨g, g1, g2⟩ := ih (by omega)
      obtain ⟨a, a1, a2⟩ := h3 k (by omega)
      by_cases c : kLt (ks a) s
      · refine ⟨k + 1, Nat.le_refl _, fun b b1 b2 => ⟨fun _ => ?_, fun _ => b2⟩⟩
        by_cases c2 : ps b = k
        · have := h2 b a b1 a1 (by omega); subst this; exact c
        · exact kLt_trans (hS b a b1 a1 (by omega)) c
      · refine ⟨g, by omega, fun b b1 b2 => ?_⟩
        by_cases c2 : ps b = k
        · have := h2 b a b1 a1 (by omega); subst this
          exact ⟨fun z => by omega, fun z => absurd z c⟩
        · exact g2 b b1 (by omega)
  exact key n (Nat.le_refl _)
theorem srtK_ins {ks : Nat → List Nat} {s : List Nat} {g e : Nat} (hb : ∀ a, N a → ps a < n) (he : ¬ N e) (hS : ∀ a b, N a → N b → ps a < ps b → kLt (ks a) (ks b)) (hg : ∀ a, N a → ps a < n → (ps a < g ↔ kLt (ks a) s)) (hab : ∀ a, N a → ks a ≠ s) : ∀ a b, inN N e a → inN N e b → inP ps e g a < inP ps e g b → kLt (va_up ks e s a) (va_up ks e s b) := by
  intro a b ha hb' hlt
  unfold inP at hlt
  by_cases ca : a = e <;> by_cases cb : b = e
  · subst ca; subst cb; exact absurd hlt (Nat.lt_irrefl _)
  · have bN : N b := by rcases hb' with z | z; exact z; exact absurd z cb
    rw [ca, up_eq, up_ne _ _ cb]
    rw [if_pos ca, if_neg cb] at hlt
    have h0 := hg b bN (hb b bN)
    have : ¬ ps b < g := by
      intro z
      rw [if_neg (by omega)] at hlt
      omega
    rcases kLt_total (ks b) s with w | w | w
    · exact absurd w (hab b bN)
    · exact absurd (h0.mpr w) this
    · exact w
  · have aN : N a := by rcases ha with z | z; exact z; exact absurd z ca
    rw [cb, up_eq, up_ne _ _ ca]
    rw [if_pos cb, if_neg ca] at hlt
    refine (hg a aN (hb a aN)).mp ?_
    by_cases c : g ≤ ps a
    · rw [if_pos c] at hlt; omega
    · omega
  · have aN : N a := by rcases ha with z | z; exact z; exact absurd z ca
    have bN : N b := by rcases hb' with z | z; exact z; exact absurd z cb
    rw [up_ne _ _ ca, up_ne _ _ cb]
    refine hS a b aN bN ?_
    rw [if_neg ca, if_neg cb] at hlt
    split at hlt <;> split at hlt <;> omega
end S
section U
variable {V : HEn} {G : Gh} {n nx : Nat} {N : Nat → Prop} {D : Nat → Int32 × Option Nat × Option Nat} {nxt pv lf rt pa : Nat → Option Nat} {rd : Nat → Int32} {ps lo hi : Nat → Nat} {root : Option Nat}
theorem UNd.add {e : Nat} {l' r' p' : Option Nat} {c' : Int32} (h : UNd V G N D nxt pv lf rt pa rd) (he : ¬ N e) (hc : G e = some (.inr (21, [.int (D e).1, va_rf (D e).2.1, va_rf (D e).2.2, va_rf (nxt e), .null, .null, va_rf p', va_rf l', va_rf r', va_rf (pv e), .int c']))) (hb : V.1 ≤ e) : UNd V G (inN N e) D nxt pv (va_up lf e l') (va_up rt e r') (va_up pa e p') (va_up rd e c') := by
  intro a ha
  by_cases c : a = e
  · subst c; simp only [up_eq]; exact ⟨hc, hb⟩
  · simp only [up_ne _ _ c]
    exact h a (by rcases ha with z | z; exact z; exact absurd z c)
/-- the chain of a tree bin stays within it -/
def Cl (N : Nat → Prop) (nxt pv : Nat → Option Nat) : Prop := ∀ a, N a → (∀ b, nxt a = some b → N b) ∧ (∀ b, pv a = some b → N b)
theorem mrf_at {td m r f : Nat} {tb : Nat → Option Nat} (h : UNd V G N D nxt pv lf rt pa rd) (hcl : Cl N nxt pv) (hm : pw m) (ht : G td = some (.inl (V.2.1 4, m, .inr (.inr (.inr (.inr tb)))))) (hb : V.1 ≤ td) (hr : N r) (hf : N f) (hi : tb (ix m (D r).1) = some f) (hN : ¬ N td) (hx : nxt f ≠ none) :
    wH (hF_J42_moveRootToFront V G nx (some td) (some r)) (fun _ G' c s => c = 0 ∧ s = 0 ∧ (∃ nxt' pv', UNd V G' N D nxt' pv' lf rt pa rd ∧ Cl N nxt' pv' ∧ nxt' r ≠ none) ∧ G' td = some (.inl (V.2.1 4, m, .inr (.inr (.inr (.inr (va_up tb (ix m (D r).1) (some r))))))) ∧ ∀ b, ¬ N b → b ≠ td → G' b = G b) := by
  have hm2 : 0 < m ∧ m ≤ 128 := by rcases hm with rfl | rfl | rfl | rfl <;> decide
  have hix := ix_lt hm (D r).1
  have ntd : ∀ a, N a → a ≠ td := fun a ha z => hN (z ▸ ha)
  unfold hF_J42_moveRootToFront hB_J42_moveRootToFront_102 hB_J42_moveRootToFront_123
  refine w_neg (by simp) (w_neg (by simp) (w_some (w_aln ht (w_neg (fun z => nI_nle hm2.1 (by omega) z) (w_some (w_uH h hr ?_))))))
  rw [ix_eq hm]
  refine w_rdR ht (gd_nI hix (by omega)) ?_
  rw [hi]
  refine w_pos (gok_at (h f hf).1 (by simp)) (w_if (fun c => w_neg (by decide) (w_ret ?_)) (fun c => ?_))
  · cases c
    refine ⟨rfl, rfl, ⟨nxt, pv, h, hcl, hx⟩, ?_, fun _ _ _ => rfl⟩
    rw [ht]
    have : va_up tb (ix m (D r).1) (some r) = tb := by
      funext i
      by_cases c : i = ix m (D r).1
      · subst c; rw [up_eq, hi]
      · rw [up_ne _ _ c]
    rw [this]
  · have fr : f ≠ r := fun z => c (by rw [z])
    refine w_pos (gokA_at (h r hr).1 (by simp) (by decide)) (w_wrR ht hb (gd_nI hix (by omega)) ?_)
    have h1 : UNd V (gset G td (.inl (V.2.1 4, m, .inr (.inr (.inr (.inr (va_up tb (ix m (D r).1) (some r)))))))) N D nxt pv lf rt pa rd := h.keep (fun a ha => gset_ne _ _ (ntd a ha))
    have e1 := gset_eq G td (.inl (V.2.1 4, m, .inr (.inr (.inr (.inr (va_up tb (ix m (D r).1) (some r)))))))
    have k1 : ∀ b, b ≠ td → gset G td (.inl (V.2.1 4, m, .inr (.inr (.inr (.inr (va_up tb (ix m (D r).1) (some r))))))) b = G b := fun b hb => gset_ne _ _ hb
    generalize hG1 : gset G td (.inl (V.2.1 4, m, .inr (.inr (.inr (.inr (va_up tb (ix m (D r).1) (some r))))))) = G1 at h1 e1 k1 ⊢
    clear hG1
    refine w_uv h1 hr (w_uN h1 hr ?_)
    -- the end: first.prev = root; root.next = first; root.prev = null
    have fin : ∀ (G2 : Gh) (nxt2 pv2 : Nat → Option Nat), UNd V G2 N D nxt2 pv2 lf rt pa rd → Cl N nxt2 pv2 → G2 td = some (.inl (V.2.1 4, m, .inr (.inr (.inr (.inr (va_up tb (ix m (D r).1) (some r))))))) → (∀ b, ¬ N b → b ≠ td → G2 b = G b) → wH (hB_J42_moveRootToFront_80 V G2 nx (some r) (some f)) (fun _ G' c s => c = 0 ∧ s = 0 ∧ (∃ nxt' pv', UNd V G' N D nxt' pv' lf rt pa rd ∧ Cl N nxt' pv' ∧ nxt' r ≠ none) ∧ G' td = some (.inl (V.2.1 4, m, .inr (.inr (.inr (.inr (va_up tb (ix m (D r).1) (some r))))))) ∧ ∀ b, ¬ N b → b ≠ td → G' b = G b) := by
      intro G2 nxt2 pv2 h2 c2 e2 k2
      unfold hB_J42_moveRootToFront_80 hB_J42_moveRootToFront_91 hB_J42_moveRootToFront_102 hB_J42_moveRootToFront_123
      refine w_neg (by simp) (w_some (w_usv h2 hf ?_))
      intro G3 h3 k3
      refine w_some (w_usN h3 hr ?_)
      intro G4 h4 k4
      refine w_usv (v := none) h4 hr ?_
      intro G5 h5 k5
      have kk : ∀ b, ¬ N b → G5 b = G2 b := fun b hb => by rw [k5 b (fun z => hb (z ▸ hr)), k4 b (fun z => hb (z ▸ hr)), k3 b (fun z => hb (z ▸ hf))]
      refine w_neg (by decide) (w_ret ⟨rfl, rfl, ⟨_, _, h5, fun a ha => ⟨fun b hb => ?_, fun b hb => ?_⟩, by rw [up_eq]; simp⟩, by rw [kk td hN]; exact e2, fun b b1 b2 => (kk b b1).trans (k2 b b1 b2)⟩)
      · by_cases ca : a = r
        · subst ca; rw [up_eq] at hb; cases hb; exact hf
        · rw [up_ne _ _ ca] at hb; exact (c2 a ha).1 b hb
      · by_cases ca : a = r
        · subst ca; rw [up_eq] at hb; cases hb
        · rw [up_ne _ _ ca] at hb
          by_cases cf : a = f
          · subst cf; rw [up_eq] at hb; cases hb; exact hr
          · rw [up_ne _ _ cf] at hb; exact (c2 a ha).2 b hb
    have mid : ∀ (G2 : Gh) (pv2 : Nat → Option Nat), UNd V G2 N D nxt pv2 lf rt pa rd → Cl N nxt pv2 → G2 td = some (.inl (V.2.1 4, m, .inr (.inr (.inr (.inr (va_up tb (ix m (D r).1) (some r))))))) → (∀ b, ¬ N b → b ≠ td → G2 b = G b) → wH (hB_J42_moveRootToFront_68 V G2 nx (some r) (some f) (nxt r) (pv r)) (fun _ G' c s => c = 0 ∧ s = 0 ∧ (∃ nxt' pv', UNd V G' N D nxt' pv' lf rt pa rd ∧ Cl N nxt' pv' ∧ nxt' r ≠ none) ∧ G' td = some (.inl (V.2.1 4, m, .inr (.inr (.inr (.inr (va_up tb (ix m (D r).1) (some r))))))) ∧ ∀ b, ¬ N b → b ≠ td → G' b = G b) := by
      intro G2 pv2 h2 c2 e2 k2
      unfold hB_J42_moveRootToFront_68
      cases ep : pv r with
      | none => exact w_pos rfl (fin G2 nxt pv2 h2 c2 e2 k2)
      | some q =>
        have qN := (hcl r hr).2 q ep
        refine w_neg (by simp) (w_some (w_usN h2 qN ?_))
        intro G3 h3 k3
        refine fin G3 _ _ h3 (fun a ha => ⟨fun b hb => ?_, (c2 a ha).2⟩) (by rw [k3 td (fun z => hN (z ▸ qN))]; exact e2) (fun b b1 b2 => (k3 b (fun z => b1 (z ▸ qN))).trans (k2 b b1 b2))
        by_cases ca : a = q
        · subst ca; rw [up_eq] at hb; exact (hcl r hr).1 b hb
        · rw [up_ne _ _ ca] at hb; exact (c2 a ha).1 b hb
    cases en : nxt r with
    | none =>
      refine w_pos rfl ?_
      have := mid G1 pv h1 hcl e1 (fun b _ b2 => k1 b b2)
      rwa [en] at this
    | some q =>
      have qN := (hcl r hr).1 q en
      refine w_neg (by simp) (w_pos (gok_at (h1 q qN).1 (by simp)) (w_some (w_usv h1 qN ?_)))
      intro G2 h2 k2
      have := mid G2 _ h2 (fun a ha => ⟨(hcl a ha).1, fun b hb => ?_⟩) (by rw [k2 td (fun z => hN (z ▸ qN))]; exact e1) (fun b b1 b2 => (k2 b (fun z => b1 (z ▸ qN))).trans (k1 b b2))
      · rwa [en] at this
      · by_cases ca : a = q
        · subst ca; rw [up_eq] at hb; exact (hcl r hr).2 b hb
        · rw [up_ne _ _ ca] at hb; exact (hcl a ha).2 b hb
end U

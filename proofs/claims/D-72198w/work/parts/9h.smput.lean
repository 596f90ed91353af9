/-! PURE 38: HashMap with Strings as keys: put of a new text -/
section M
variable {V : HEn} {G : Gh} {o td n nx ik id cnt cap : Nat} {N : Nat → Prop} {D : Nat → Int32 × Option Nat × Option Nat} {ko kd : Nat → Nat} {ks : Nat → List Nat} {tb : Nat → Option Nat} {mc : Int32} {s : List Nat} {v : Option Nat}
/-- all that a put finds -/
def PutH (V : HEn) (G : Gh) (o td nx : Nat) (N : Nat → Prop) (ko kd : Nat → Nat) (ks : Nat → List Nat) (cnt cap ik id : Nat) (s : List Nat) : Prop :=
  1200 ≤ V.2.2.2.2 ∧ cnt + 1 ≤ 48 ∧ cap ≤ 60 ∧ Cnt N cap ∧ o < nx ∧ td < nx ∧ (∀ a, N a → a < nx ∧ ko a < nx ∧ kd a < nx) ∧ Str V G ik id s True ∧ ik < nx ∧ id < nx ∧ ¬ N ik ∧ ¬ N id ∧ ik ≠ o ∧ ik ≠ td ∧ id ≠ o ∧ id ≠ td ∧ (∀ a, N a → ks a ≠ s)
theorem sm_fin {c0 s0 td2 n2 : Nat} {G2 : Gh} {N' : Nat → Prop} {D' : Nat → Int32 × Option Nat × Option Nat} {ko' kd' : Nat → Nat} {ks' : Nat → List Nat} {tb' : Nat → Option Nat} (hP : PutH V G o td nx N ko kd ks cnt cap ik id s) (hS : SMb V G2 o td2 n2 N' D' ko' kd' ks' tb' cnt mc (cap + 1)) (hC : Cnt N' (cap + 1)) (h1 : td2 = td ∨ (nx ≤ td2 ∧ td2 < nx + c0)) (h2 : ∀ a, N' a → N a ∨ (nx ≤ a ∧ a < nx + c0)) (h3 : ∀ a, N' a → (∃ a0, N a0 ∧ ks' a = ks a0 ∧ ko' a = ko a0 ∧ kd' a = kd a0 ∧ (D' a).2.2 = (D a0).2.2) ∨ (ks' a = s ∧ ko' a = ik ∧ kd' a = id ∧ (D' a).2.2 = v)) (h4 : ∀ a0, N a0 → ∃ a, N' a ∧ ks' a = ks a0) (h5 : ∃ a, N' a ∧ ks' a = s) (hf : ∀ b, ¬ N b → b ≠ o → b ≠ td → b < nx → G2 b = G b) (hc1 : 1 ≤ c0) (hc2 : c0 ≤ cap + 2) (hs0 : s0 ≤ 11 * cap + 32) :
    wH (hB_J39_putVal_222 V o G2 (nx + c0) v 0 1 none) (fun r G' c s' => SPut V G o td nx N D ko kd ks cnt cap ik id s v r G' (c0 + c) (s0 + s')) := by
  obtain ⟨p1, p2, p3, p4, p5, p6, p7, p8, p9, p10, p11, p12, p13, p14, p15, p16, p17⟩ := hP
  unfold hB_J39_putVal_222
  refine w_pos rfl (w_mono (sm_259 (nx := nx + c0) p1 hS p2 (by omega) hC ⟨by omega, by omega, fun a ha => ?_⟩) ?_)
  · have := h2 a ha
    refine ⟨?_, ?_⟩
    · rcases this with z | z
      · have := p7 a z; omega
      · omega
    · rcases h3 a ha with ⟨a0, z0, -, z1, z2, -⟩ | ⟨-, z1, z2, -⟩
      · have := p7 a0 z0; rw [z1, z2]; omega
      · rw [z1, z2]; omega
  · rintro r G' c s' ⟨q1, q2, q3, ⟨td', n', tb', mc', q4, q5⟩, q6⟩
    refine ⟨q1, by omega, by omega, by omega, ⟨td', n', N', D', ko', kd', ks', tb', mc', q4, hC, ?_, fun a ha => ?_, h3, h4, h5⟩, fun b b1 b2 b3 b4 => ?_⟩
    · rcases q5 with z | ⟨z, z2⟩
      · rw [z]
        rcases h1 with w | w
        · exact Or.inl w
        · exact Or.inr (by omega)
      · exact Or.inr (by omega)
    · rcases h2 a ha with z | z
      · exact Or.inl z
      · exact Or.inr (by omega)
    · have : b ≠ td2 := by
        rcases h1 with w | w
        · rw [w]; exact b3
        · omega
      rw [q6 b (fun z => by rcases h2 b z with w | w; exact b1 w; omega) b2 this (by omega)]
      exact hf b b1 b2 b3 b4
/-- a new node in its bin: the map -/
theorem sm_add {G2 : Gh} {i : Nat} {tb' : Nat → Option Nat} (hP : PutH V G o td nx N ko kd ks cnt cap ik id s) (h : SMb V G o td n N D ko kd ks tb cnt mc cap) (hi : i = ix n (spr (hsh s))) (h1 : HOb G2 o 19 (some td) (nI cnt) mc (nI (n / 4 * 3)) none) (h2 : G2 td = some (.inl (V.2.1 4, n, .inr (.inr (.inr (.inr tb')))))) (h3 : ∀ j, j ≠ i → tb' j = tb j) (hf : ∀ b, ¬ Bin n N D i b → b ≠ o → b ≠ td → b ≠ nx → G2 b = G b) (hB : BinOk V G2 (inN (Bin n N D i) nx) (va_up D nx (spr (hsh s), some ik, v)) (va_up ks nx s) (tb' i) n (cap + 1)) :
    SMb V G2 o td n (inN N nx) (va_up D nx (spr (hsh s), some ik, v)) (va_up ko nx ik) (va_up kd nx id) (va_up ks nx s) tb' cnt mc (cap + 1) ∧ Cnt (inN N nx) (cap + 1) := by
  obtain ⟨p1, p2, p3, p4, p5, p6, p7, p8, p9, p10, p11, p12, p13, p14, p15, p16, p17⟩ := hP
  have h0 := h
  obtain ⟨g1, g2, g3, g4, g5, g6, g7, g8, g9, g10⟩ := h0
  have nN : ¬ N nx := fun w => Nat.lt_irrefl _ (p7 nx w).1
  have ne : ∀ a, N a → a ≠ nx := fun a ha z => nN (z ▸ ha)
  have of : ∀ a, inN N nx a → a ≠ nx → N a := fun a ha c => by rcases ha with z | z; exact z; exact absurd z c
  have kst : ∀ a, N a → G2 (ko a) = G (ko a) ∧ G2 (kd a) = G (kd a) := fun a ha => by
    obtain ⟨-, -, -, y1, y2, y3, y4, y5, y6⟩ := g8 a ha
    have := p7 a ha
    exact ⟨hf _ (fun z => y1 z.1) y3 y4 (by omega), hf _ (fun z => y2 z.1) y5 y6 (by omega)⟩
  refine ⟨h.upd (i := i) h1 h2 h3 (fun a ha hne => hf a (fun z => hne z.2) (g8 a ha).2.1 (g8 a ha).2.2.1 (ne a ha)) (fun a hne ha => ⟨Or.inl ha, up_ne _ _ (ne a ha), up_ne _ _ (ne a ha)⟩) (fun a hne ha => ?_) (fun a ha => ?_) (fun a b ha hb e => ?_) (fun a ha => ?_) (fun _ => ?_), ?_⟩
  · by_cases c : a = nx
    · subst c; rw [up_eq] at hne; exact absurd hi.symm hne
    · exact ⟨of a ha c, up_ne _ _ c⟩
  · by_cases c : a = nx
    · subst c
      simp only [up_eq]
      exact ⟨trivial, p8.keep (hf _ (fun z => p11 z.1) p13 p14 (by omega)) (hf _ (fun z => p12 z.1) p15 p16 (by omega)), trivial⟩
    · simp only [up_ne _ _ c]
      have aN := of a ha c
      exact ⟨(g6 a aN).1, (g6 a aN).2.1.keep (kst a aN).1 (kst a aN).2, (g6 a aN).2.2⟩
  · by_cases ca : a = nx <;> by_cases cb : b = nx
    · rw [ca, cb]
    · rw [ca, up_eq, up_ne _ _ cb] at e; exact absurd e.symm (p17 b (of b hb cb))
    · rw [cb, up_eq, up_ne _ _ ca] at e; exact absurd e (p17 a (of a ha ca))
    · rw [up_ne _ _ ca, up_ne _ _ cb] at e; exact g7 a b (of a ha ca) (of b hb cb) e
  · by_cases c : a = nx
    · subst c
      simp only [up_eq]
      refine ⟨by omega, by omega, by omega, ?_, ?_, p13, p14, p15, p16⟩
      · rintro (z | z); exact p11 z; omega
      · rintro (z | z); exact p12 z; omega
    · simp only [up_ne _ _ c]
      have aN := of a ha c
      obtain ⟨y0, y1, y2, y3, y4, y5⟩ := g8 a aN
      have := p7 a aN
      refine ⟨y0, y1, y2, ?_, ?_, y5⟩
      · rintro (z | z); exact y3 z; omega
      · rintro (z | z); exact y4 z; omega
  · have e : Bin n (inN N nx) (va_up D nx (spr (hsh s), some ik, v)) i = inN (Bin n N D i) nx := by
      funext a
      apply propext
      by_cases c : a = nx
      · subst c
        exact ⟨fun _ => Or.inr rfl, fun _ => ⟨Or.inr rfl, by rw [up_eq]; exact hi.symm⟩⟩
      · constructor
        · rintro ⟨z1, z2⟩; rw [up_ne _ _ c] at z2; exact Or.inl ⟨of a z1 c, z2⟩
        · rintro (z | z)
          · exact ⟨Or.inl z.1, by rw [up_ne _ _ c]; exact z.2⟩
          · exact absurd z c
    rw [e]; exact hB
  · obtain ⟨NL, l1, l2⟩ := p4
    refine ⟨NL ++ [nx], by simp; omega, fun a ha => ?_⟩
    rcases ha with z | z
    · simp [l2 a z]
    · simp [z]
/-- then it is counted -/
theorem sm_done {G2 : Gh} {i s0 : Nat} {tb' : Nat → Option Nat} (hP : PutH V G o td nx N ko kd ks cnt cap ik id s) (h : SMb V G o td n N D ko kd ks tb cnt mc cap) (hi : i = ix n (spr (hsh s))) (h1 : HOb G2 o 19 (some td) (nI cnt) mc (nI (n / 4 * 3)) none) (h2 : G2 td = some (.inl (V.2.1 4, n, .inr (.inr (.inr (.inr tb')))))) (h3 : ∀ j, j ≠ i → tb' j = tb j) (hf : ∀ b, ¬ Bin n N D i b → b ≠ o → b ≠ td → b ≠ nx → G2 b = G b) (hB : BinOk V G2 (inN (Bin n N D i) nx) (va_up D nx (spr (hsh s), some ik, v)) (va_up ks nx s) (tb' i) n (cap + 1)) (hs0 : s0 ≤ 32) :
    wH (hB_J39_putVal_222 V o G2 (nx + 1) v 0 1 none) (fun r G' c s' => SPut V G o td nx N D ko kd ks cnt cap ik id s v r G' (1 + c) (s0 + s')) := by
  have hP0 := hP
  obtain ⟨p1, p2, p3, p4, p5, p6, p7, p8, p9, p10, p11, p12, p13, p14, p15, p16, p17⟩ := hP0
  have nN : ¬ N nx := fun w => Nat.lt_irrefl _ (p7 nx w).1
  obtain ⟨q1, q2⟩ := sm_add hP h hi h1 h2 h3 hf hB
  refine sm_fin hP q1 q2 (Or.inl rfl) (fun a ha => ?_) (fun a ha => ?_) (fun a ha => ⟨a, Or.inl ha, up_ne _ _ (fun z => nN (z ▸ ha))⟩) ⟨nx, Or.inr rfl, up_eq _ _ _⟩ (fun b b1 b2 b3 b4 => hf b (fun z => b1 z.1) b2 b3 (by omega)) (by omega) (by omega) (by omega)
  · rcases ha with z | z
    · exact Or.inl z
    · exact Or.inr (by omega)
  · by_cases c : a = nx
    · subst c; simp only [up_eq]; exact Or.inr ⟨trivial, trivial, trivial, trivial⟩
    · simp only [up_ne _ _ c]
      exact Or.inl ⟨a, by rcases ha with z | z; exact z; exact absurd z c, rfl, rfl, rfl, rfl⟩
end M

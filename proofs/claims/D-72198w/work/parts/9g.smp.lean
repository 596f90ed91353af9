/-! PURE 37: HashMap with Strings as keys: list bins and the other form; size, threshold -/
/-- at most cap nodes -/
def Cnt (N : Nat → Prop) (cap : Nat) : Prop := ∃ NL : List Nat, NL.length ≤ cap ∧ ∀ a, N a → a ∈ NL
section M
variable {V : HEn} {G : Gh} {o td n nx ik id cnt cap : Nat} {N B : Nat → Prop} {D : Nat → Int32 × Option Nat × Option Nat} {ko kd : Nat → Nat} {ks : Nat → List Nat} {tb : Nat → Option Nat} {mc : Int32} {s : List Nat} {st : Prop} {r : Option Nat}
theorem Cnt.len (h : Cnt N cap) {L : List Nat} (h1 : L.Nodup) (h2 : ∀ a ∈ L, N a) : L.length ≤ cap := by
  obtain ⟨NL, q1, q2⟩ := h
  exact Nat.le_trans (nodup_sub h1 (fun a ha => q2 a (h2 a ha))) q1
theorem SMb.toH (h : SMb V G o td n N D ko kd ks tb cnt mc cap) (hn : n ≤ 32) : ∃ nxt bn, HMr V G o 19 20 td n N (fun a => (D a).1) (fun a => (D a).2.1) (fun a => (D a).2.2) nxt bn none cnt mc ∧ ∀ i, i < n → (bn i).length ≤ cap := by
  obtain ⟨g1, g2, g3, g4, g5, g6, g7, g8, g9, g10⟩ := h
  have hex : ∀ i, ∃ p : List Nat × (Nat → Option Nat), i < n → (Chn p.2 (tb i) p.1 ∧ p.1.Nodup ∧ (∀ a, a ∈ p.1 ↔ Bin n N D i a) ∧ p.1.length ≤ cap ∧ ∀ a ∈ p.1, HNd G a 20 (D a).1 (D a).2.1 (D a).2.2 (p.2 a)) := by
    intro i
    by_cases c : i < n
    · rcases g10 i c with ⟨L, nxt, q⟩ | ⟨q, -⟩
      · exact ⟨(L, nxt), fun _ => q⟩
      · omega
    · exact ⟨([], fun _ => none), fun z => absurd z c⟩
  obtain ⟨f, hf⟩ := Classical.skolem.mp hex
  have at_ : ∀ a, N a → ix n (D a).1 < n ∧ a ∈ (f (ix n (D a).1)).1 := fun a ha => ⟨ix_lt g2 _, ((hf _ (ix_lt g2 _)).2.2.1 a).mpr ⟨ha, rfl⟩⟩
  refine ⟨fun a => (f (ix n (D a).1)).2 a, fun i => (f i).1, ⟨g1, ⟨tb, g9, fun i hi => ?_⟩, fun a ha => ⟨(hf _ (at_ a ha).1).2.2.2.2 a (at_ a ha).2, (g8 a ha).1, (g8 a ha).2.1, (g8 a ha).2.2.1⟩, fun i hi a => (hf i hi).2.2.1 a, fun i hi => (hf i hi).2.1, g2, g3, g4, g5, fun t ht => (by cases ht), Or.inl ⟨rfl, rfl⟩⟩, fun i hi => (hf i hi).2.2.2.1⟩
  refine (hf i hi).1.congr (fun a ha => ?_)
  have := ((hf i hi).2.2.1 a).mp ha
  show (f (ix n (D a).1)).2 a = _
  rw [this.2]
theorem HMr.toS {nxt : Nat → Option Nat} {bn : Nat → List Nat} {tl : Option Nat} (h : HMr V G o 19 20 td n N (fun a => (D a).1) (fun a => (D a).2.1) (fun a => (D a).2.2) nxt bn tl cnt mc) (hT : TK V G N D ko kd ks) (hinj : ∀ a b, N a → N b → ks a = ks b → a = b) (hst : ∀ a, N a → ¬ N (ko a) ∧ ¬ N (kd a) ∧ ko a ≠ o ∧ ko a ≠ td ∧ kd a ≠ o ∧ kd a ≠ td) (hC : Cnt N cap) : ∃ tb, SMb V G o td n N D ko kd ks tb cnt mc cap := by
  obtain ⟨h1, ⟨tb, h2, h3⟩, h4, h5, h6, h7, h8, h9, h10, h11, h12⟩ := h
  have htl : tl = none := by
    rcases h1 with ⟨-, z, -⟩ | ⟨z, -⟩
    · exact z
    · cases z
  subst htl
  refine ⟨tb, h1, h7, h8, h9, h10, hT, hinj, fun a ha => ⟨(h4 a ha).2.1, (h4 a ha).2.2.1, (h4 a ha).2.2.2, hst a ha⟩, h2, fun i hi => Or.inl ⟨bn i, nxt, h3 i hi, h6 i hi, h5 i hi, hC.len (h6 i hi) (fun a ha => ((h5 i hi a).mp ha).1), fun a ha => (h4 a ((h5 i hi a).mp ha).1).1⟩⟩
abbrev S259 (V : HEn) (G : Gh) (o td nx : Nat) (N : Nat → Prop) (D : Nat → Int32 × Option Nat × Option Nat) (ko kd : Nat → Nat) (ks : Nat → List Nat) (cnt cap : Nat) : Option Nat → Gh → Nat → Nat → Prop := fun r G' c s => r = none ∧ c ≤ 1 ∧ s ≤ 128 ∧ (∃ td' n' tb' mc', SMb V G' o td' n' N D ko kd ks tb' (cnt + 1) mc' cap ∧ (td' = td ∨ (td' = nx ∧ c = 1))) ∧ ∀ b, ¬ N b → b ≠ o → b ≠ td → b < nx → G' b = G b
theorem sm_259 (hV : 1200 ≤ V.2.2.2.2) (h : SMb V G o td n N D ko kd ks tb cnt mc cap) (hcnt : cnt + 1 ≤ 48) (hcap : cap ≤ 100) (hC : Cnt N cap) (hold : o < nx ∧ td < nx ∧ ∀ a, N a → a < nx ∧ ko a < nx ∧ kd a < nx) :
    wH (hB_J39_putVal_259 V o G nx 1) (S259 V G o td nx N D ko kd ks cnt cap) := by
  have h0 := h
  obtain ⟨g1, g2, g3, g4, g5, g6, g7, g8, g9, g10⟩ := h0
  by_cases hn : n ≤ 32
  · obtain ⟨nxt, bn, q1, q2⟩ := h.toH hn
    refine w_mono (put_259 (nx := nx) (by omega) q1 (by omega) (fun i hi => by have := q2 i hi; omega) ⟨hold.1, hold.2.1, fun a ha => (hold.2.2 a ha).1⟩) ?_
    rintro r G' c s' ⟨z1, z2, z3, ⟨td', n', nxt', bn', z4, z5, -⟩, z6⟩
    have kst : ∀ a, N a → G' (ko a) = G (ko a) ∧ G' (kd a) = G (kd a) := fun a ha => by
      obtain ⟨-, -, -, y1, y2, y3, y4, y5, y6⟩ := g8 a ha
      exact ⟨z6 _ y1 y3 y4 (hold.2.2 a ha).2.1, z6 _ y2 y5 y6 (hold.2.2 a ha).2.2⟩
    obtain ⟨tb', w⟩ := HMr.toS z4 (fun a ha => ⟨(g6 a ha).1, (g6 a ha).2.1.keep (kst a ha).1 (kst a ha).2, (g6 a ha).2.2⟩) g7 (fun a ha => by
      obtain ⟨-, -, -, y1, y2, y3, y4, y5, y6⟩ := g8 a ha
      have := hold.2.2 a ha
      rcases z5 with ⟨z5, -⟩ | ⟨z5, -⟩
      · rw [z5]; exact ⟨y1, y2, y3, y4, y5, y6⟩
      · rw [z5]; exact ⟨y1, y2, y3, by omega, y5, by omega⟩) hC
    refine ⟨z1, z2, z3, ⟨td', n', tb', _, w, ?_⟩, z6⟩
    rcases z5 with ⟨z5, -⟩ | z5
    · exact Or.inl z5
    · exact Or.inr z5
  · have hn2 : 48 ≤ n / 4 * 3 ∧ n ≤ 128 := by rcases g2 with rfl | rfl | rfl | rfl <;> omega
    unfold hB_J39_putVal_259
    refine w_hM g1 (w_hsM g1 g3 ?_)
    intro G1 t1 t2
    refine w_hS t1 (w_hsS t1 g3 ?_)
    intro G2 u1 u2
    rw [nI_1] at u1
    rw [nI_1]
    have k2 : ∀ b, b ≠ o → G2 b = G b := fun b hb => by rw [u2 b hb, t2 b hb]
    refine w_hH u1 (w_pos (nI_le (by omega) (by omega)) ⟨_, _, _, _, after_at u1, rfl, by omega, by omega, ⟨td, n, tb, _, ⟨u1, g2, g3, g4, g5, ?_⟩, Or.inl rfl⟩, fun b b1 b2 b3 b4 => k2 b b2⟩)
    refine ⟨fun a ha => ⟨(g6 a ha).1, ?_, (g6 a ha).2.2⟩, g7, g8, by rw [k2 td (Ne.symm g5)]; exact g9, fun i hi => (g10 i hi).keep (fun a ha => k2 a (g8 a ha.1).2.1)⟩
    obtain ⟨-, -, -, y1, y2, y3, y4, y5, y6⟩ := g8 a ha
    exact (g6 a ha).2.1.keep (k2 _ y3) (k2 _ y5)
/-- what a put of a new text ends with -/
abbrev SPut (V : HEn) (G : Gh) (o td nx : Nat) (N : Nat → Prop) (D : Nat → Int32 × Option Nat × Option Nat) (ko kd : Nat → Nat) (ks : Nat → List Nat) (cnt cap ik id : Nat) (s : List Nat) (v : Option Nat) : Option Nat → Gh → Nat → Nat → Prop := fun r G' c s' => r = none ∧ 1 ≤ c ∧ c ≤ cap + 3 ∧ s' ≤ 11 * cap + 160 ∧ (∃ td' n' N' D' ko' kd' ks' tb' mc', SMb V G' o td' n' N' D' ko' kd' ks' tb' (cnt + 1) mc' (cap + 1) ∧ Cnt N' (cap + 1) ∧ (td' = td ∨ (nx ≤ td' ∧ td' < nx + c)) ∧ (∀ a, N' a → N a ∨ (nx ≤ a ∧ a < nx + c)) ∧ (∀ a, N' a → (∃ a0, N a0 ∧ ks' a = ks a0 ∧ ko' a = ko a0 ∧ kd' a = kd a0 ∧ (D' a).2.2 = (D a0).2.2) ∨ (ks' a = s ∧ ko' a = ik ∧ kd' a = id ∧ (D' a).2.2 = v)) ∧ (∀ a0, N a0 → ∃ a, N' a ∧ ks' a = ks a0) ∧ ∃ a, N' a ∧ ks' a = s) ∧ ∀ b, ¬ N b → b ≠ o → b ≠ td → b < nx → G' b = G b
/-- one bin is laid anew -/
theorem SMb.upd {G1 : Gh} {i : Nat} {N' : Nat → Prop} {D' : Nat → Int32 × Option Nat × Option Nat} {ko' kd' : Nat → Nat} {ks' : Nat → List Nat} {tb' : Nat → Option Nat} (h : SMb V G o td n N D ko kd ks tb cnt mc cap) (h1 : HOb G1 o 19 (some td) (nI cnt) mc (nI (n / 4 * 3)) none) (h2 : G1 td = some (.inl (V.2.1 4, n, .inr (.inr (.inr (.inr tb')))))) (h3 : ∀ j, j ≠ i → tb' j = tb j) (h4 : ∀ a, N a → ix n (D a).1 ≠ i → G1 a = G a) (h5 : ∀ a, ix n (D a).1 ≠ i → N a → N' a ∧ D' a = D a ∧ ks' a = ks a) (h6 : ∀ a, ix n (D' a).1 ≠ i → N' a → N a ∧ D' a = D a) (h7 : TK V G1 N' D' ko' kd' ks') (h8 : ∀ a b, N' a → N' b → ks' a = ks' b → a = b) (h9 : ∀ a, N' a → V.1 ≤ a ∧ a ≠ o ∧ a ≠ td ∧ ¬ N' (ko' a) ∧ ¬ N' (kd' a) ∧ ko' a ≠ o ∧ ko' a ≠ td ∧ kd' a ≠ o ∧ kd' a ≠ td) (h10 : i < n → BinOk V G1 (Bin n N' D' i) D' ks' (tb' i) n (cap + 1)) : SMb V G1 o td n N' D' ko' kd' ks' tb' cnt mc (cap + 1) := by
  obtain ⟨g1, g2, g3, g4, g5, g6, g7, g8, g9, g10⟩ := h
  refine ⟨h1, g2, g3, g4, g5, h7, h8, h9, h2, fun j hj => ?_⟩
  by_cases c : j = i
  · subst c; exact h10 hj
  · rw [h3 j c]
    have e : ∀ a, Bin n N' D' j a ↔ Bin n N D j a := by
      intro a
      constructor
      · rintro ⟨z1, z2⟩
        obtain ⟨z3, z4⟩ := h6 a (by rw [z2]; exact c) z1
        exact ⟨z3, by rw [← z4]; exact z2⟩
      · rintro ⟨z1, z2⟩
        obtain ⟨z3, z4, z5⟩ := h5 a (by rw [z2]; exact c) z1
        exact ⟨z3, by rw [z4]; exact z2⟩
    have eB : Bin n N' D' j = Bin n N D j := funext fun a => propext (e a)
    have same : ∀ a, Bin n N D j a → D' a = D a ∧ ks' a = ks a ∧ G1 a = G a := fun a ha => by
      obtain ⟨z3, z4, z5⟩ := h5 a (by rw [ha.2]; exact c) ha.1
      exact ⟨z4, z5, h4 a ha.1 (by rw [ha.2]; exact c)⟩
    rw [eB]
    have hb := ((g10 j hj).keep (fun a ha => (same a ha).2.2)).mono (show cap ≤ cap + 1 by omega)
    rcases hb with ⟨L, nxt, b1, b2, b3, b4, b5⟩ | ⟨b1, r0, k, b2, b3, b4⟩
    · exact Or.inl ⟨L, nxt, b1, b2, b3, b4, fun a ha => by rw [(same a ((b3 a).mp ha)).1]; exact b5 a ha⟩
    · refine Or.inr ⟨b1, r0, k, b2, b3, ?_⟩
      obtain ⟨nxt, pv, lf, rt, pa, rd, ps, lo, hi, u1, u2, u3, u4, u5⟩ := b4
      exact ⟨nxt, pv, lf, rt, pa, rd, ps, lo, hi, u1.congrD (fun a ha => (same a ha).1) (fun _ _ => rfl) (fun _ _ => rfl), u2, fun a b ha hb z => by rw [(same a ha).2.1, (same b hb).2.1]; exact u3 a b ha hb z, u4, u5⟩
end M

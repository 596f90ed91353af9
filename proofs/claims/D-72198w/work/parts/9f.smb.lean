/-! PURE 36: HashMap with Strings as keys: list bins and tree bins; getNode -/
abbrev Bin (n : Nat) (N : Nat → Prop) (D : Nat → Int32 × Option Nat × Option Nat) (i : Nat) : Nat → Prop := fun a => N a ∧ ix n (D a).1 = i
def BinOk (V : HEn) (G : Gh) (B : Nat → Prop) (D : Nat → Int32 × Option Nat × Option Nat) (ks : Nat → List Nat) (r : Option Nat) (n cap : Nat) : Prop :=
  (∃ L nxt, Chn nxt r L ∧ L.Nodup ∧ (∀ a, a ∈ L ↔ B a) ∧ L.length ≤ cap ∧ ∀ a ∈ L, HNd G a 20 (D a).1 (D a).2.1 (D a).2.2 (nxt a)) ∨
  (64 ≤ n ∧ ∃ r0 k, r = some r0 ∧ k ≤ cap ∧ TB V G B k D ks r0)
def SMb (V : HEn) (G : Gh) (o td n : Nat) (N : Nat → Prop) (D : Nat → Int32 × Option Nat × Option Nat) (ko kd : Nat → Nat) (ks : Nat → List Nat) (tb : Nat → Option Nat) (cnt : Nat) (mc : Int32) (cap : Nat) : Prop :=
  HOb G o 19 (some td) (nI cnt) mc (nI (n / 4 * 3)) none ∧ pw n ∧ V.1 ≤ o ∧ V.1 ≤ td ∧ o ≠ td ∧
  TK V G N D ko kd ks ∧ (∀ a b, N a → N b → ks a = ks b → a = b) ∧
  (∀ a, N a → V.1 ≤ a ∧ a ≠ o ∧ a ≠ td ∧ ¬ N (ko a) ∧ ¬ N (kd a) ∧ ko a ≠ o ∧ ko a ≠ td ∧ kd a ≠ o ∧ kd a ≠ td) ∧
  G td = some (.inl (V.2.1 4, n, .inr (.inr (.inr (.inr tb))))) ∧ ∀ i, i < n → BinOk V G (Bin n N D i) D ks (tb i) n cap
section M
variable {V : HEn} {G : Gh} {o td n nx ik id cnt cap : Nat} {N B : Nat → Prop} {D : Nat → Int32 × Option Nat × Option Nat} {ko kd : Nat → Nat} {ks : Nat → List Nat} {tb : Nat → Option Nat} {mc : Int32} {s : List Nat} {st : Prop} {r : Option Nat}
theorem TB.keep {G' : Gh} {k r0 : Nat} (h : TB V G B k D ks r0) (hk : ∀ a, B a → G' a = G a) : TB V G' B k D ks r0 := by
  obtain ⟨nxt, pv, lf, rt, pa, rd, ps, lo, hi, h1, h2⟩ := h
  exact ⟨nxt, pv, lf, rt, pa, rd, ps, lo, hi, h1.keep hk, h2⟩
theorem BinOk.keep {G' : Gh} (h : BinOk V G B D ks r n cap) (hk : ∀ a, B a → G' a = G a) : BinOk V G' B D ks r n cap := by
  rcases h with ⟨L, nxt, h1, h2, h3, h4, h5⟩ | ⟨h1, r0, k, h2, h3, h4⟩
  · exact Or.inl ⟨L, nxt, h1, h2, h3, h4, fun a ha => (h5 a ha).keep (hk a ((h3 a).mp ha))⟩
  · exact Or.inr ⟨h1, r0, k, h2, h3, h4.keep hk⟩
theorem BinOk.mono {cap' : Nat} (h : BinOk V G B D ks r n cap) (hc : cap ≤ cap') : BinOk V G B D ks r n cap' := by
  rcases h with ⟨L, nxt, h1, h2, h3, h4, h5⟩ | ⟨h1, r0, k, h2, h3, h4⟩
  · exact Or.inl ⟨L, nxt, h1, h2, h3, by omega, h5⟩
  · exact Or.inr ⟨h1, r0, k, h2, by omega, h4⟩
theorem SMb.keep {G' : Gh} (h : SMb V G o td n N D ko kd ks tb cnt mc cap) (h1 : G' o = G o) (h2 : G' td = G td) (h3 : ∀ a, N a → G' a = G a ∧ G' (ko a) = G (ko a) ∧ G' (kd a) = G (kd a)) : SMb V G' o td n N D ko kd ks tb cnt mc cap := by
  obtain ⟨g1, g2, g3, g4, g5, g6, g7, g8, g9, g10⟩ := h
  exact ⟨g1.keep h1, g2, g3, g4, g5, fun a ha => ⟨(g6 a ha).1, (g6 a ha).2.1.keep (h3 a ha).2.1 (h3 a ha).2.2, (g6 a ha).2.2⟩, g7, g8, h2.trans g9, fun i hi => (g10 i hi).keep (fun a ha => (h3 a ha.1).1)⟩
theorem keyq_at (hV : 1200 ≤ V.2.2.2.2) (hT : TK V G N D ko kd ks) (hk : Str V G ik id s st) (hB : ∀ a, B a → N a) : KeyQ V G ik (spr (hsh s)) B (fun a => (D a).1) (fun a => (D a).2.1) (fun a => ks a = s) := by
  intro a ha
  obtain ⟨t1, t2, t3⟩ := hT a (hB a ha)
  refine ⟨fun e => ?_, fun e => ?_, fun e1 e2 nx => ?_⟩
  · show (D a).1 = _; rw [t3, e]
  · have e : (D a).2.1 = some ik := e
    rw [t1] at e
    cases e
    exact t2.inj hk
  · show (_ ∧ eqD V G nx ik (D a).2.1 = _) ∨ _
    rw [t1, str_eqD hV hk t2]
    by_cases c : ks a = s
    · exact Or.inl ⟨c, by rw [if_pos c.symm]⟩
    · refine Or.inr ⟨c, ?_⟩
      show eqD V G nx ik (D a).2.1 = _
      rw [t1, str_eqD hV hk t2, if_neg (fun z => c z.symm)]
theorem sm_node {G0 : Gh} (hV : 1200 ≤ V.2.2.2.2) (h : SMb V G o td n N D ko kd ks tb cnt mc cap) (hcap : cap ≤ 200) (ho : G0 o = G o) (ht : G0 td = G td) (hh : hF_J39_hash V G0 nx (some ik) = some (spr (hsh s), G, 0, 0)) (hk : Str V G ik id s st) :
    ∃ r, hF_J39_getNode V G0 nx o (some ik) = some (r, G, 0, 0) ∧ ((∃ a, r = some a ∧ N a ∧ ks a = s) ∨ (r = none ∧ ∀ a, N a → ks a ≠ s)) := by
  obtain ⟨g1, g2, g3, g4, g5, g6, g7, g8, g9, g10⟩ := h
  have hn : 0 < n ∧ n ≤ 128 := by rcases g2 with rfl | rfl | rfl | rfl <;> decide
  have hi := ix_lt g2 (spr (hsh s))
  have hq := keyq_at hV g6 hk (B := Bin n N D (ix n (spr (hsh s)))) (fun a ha => ha.1)
  have hw : wH (hF_J39_getNode V G0 nx o (some ik)) (fun r G' c s' => G' = G ∧ c = 0 ∧ s' = 0 ∧ ((∃ a, r = some a ∧ Bin n N D (ix n (spr (hsh s))) a ∧ ks a = s) ∨ (r = none ∧ ∀ a, Bin n N D (ix n (spr (hsh s))) a → ks a ≠ s))) := by
    unfold hF_J39_getNode
    refine w_hT (g1.keep ho) (w_neg (by simp) (w_some (w_aln (ht.trans g9) (w_neg (fun z => nI_nle hn.1 (by omega) z) (w_call0 hh ?_)))))
    rw [ix_eq g2]
    refine w_rdR g9 (gd_nI hi (by omega)) ?_
    rcases g10 _ hi with ⟨L, nxt, b1, b2, b3, b4, b5⟩ | ⟨b1, r0, k, b2, b3, b4⟩
    · cases e : L with
      | nil =>
        rw [e] at b1
        have b1 : tb (ix n (spr (hsh s))) = none := b1
        rw [b1]
        unfold hB_J39_getNode_148
        exact w_pos rfl (w_ret ⟨rfl, rfl, rfl, Or.inr ⟨rfl, fun a ha => by have := (b3 a).mpr ha; rw [e] at this; simp at this⟩⟩)
      | cons b t =>
        rw [e] at b1
        obtain ⟨c1, c2⟩ := b1
        rw [c1]
        have mem : ∀ a ∈ b :: t, Bin n N D (ix n (spr (hsh s))) a := fun a ha => (b3 a).mp (by rw [e]; exact ha)
        have nod : ∀ a, Bin n N D (ix n (spr (hsh s))) a → HNd G a 20 (D a).1 (D a).2.1 (D a).2.2 (nxt a) := fun a ha => b5 a ((b3 a).mpr ha)
        have hb := mem b (by simp)
        obtain ⟨q1, q2, q3⟩ := hq b hb
        have rest : ¬ ks b = s → ∀ nx, wH (hB_J39_getNode_71 V o G nx (some ik) (some b) (spr (hsh s))) (fun r G' c s' => G' = G ∧ c = 0 ∧ s' = 0 ∧ ((∃ a, r = some a ∧ Bin n N D (ix n (spr (hsh s))) a ∧ ks a = s) ∨ (r = none ∧ ∀ a, Bin n N D (ix n (spr (hsh s))) a → ks a ≠ s))) := by
          intro nb nx
          unfold hB_J39_getNode_71 hB_J39_getNode_148
          refine w_some (w_nN (nod b hb) ?_)
          cases e2 : t with
          | nil =>
            rw [e2] at c2
            have c2 : nxt b = none := c2
            rw [c2]
            refine w_pos rfl (w_ret ⟨rfl, rfl, rfl, Or.inr ⟨rfl, fun a ha => ?_⟩⟩)
            have := (b3 a).mpr ha
            rw [e, e2] at this
            simp at this
            rw [this]; exact nb
          | cons d t' =>
            rw [e2] at c2
            obtain ⟨d1, d2⟩ := c2
            rw [d1]
            refine w_neg (by simp) (w_bind (nod b hb).gin (w_pos rfl ?_))
            rw [e, e2] at b4
            obtain ⟨r, z1, z2⟩ := get_scan (o := o) nod hq t' d V.2.2.2.2 nx (mem d (by simp [e2])) (fun a ha => mem a (by simp [e2, ha])) d2 (by simp at b4; omega)
            refine ⟨r, G, 0, 0, z1, rfl, rfl, rfl, ?_⟩
            rcases z2 with z2 | ⟨z2, z3⟩
            · exact Or.inl z2
            · refine Or.inr ⟨z2, fun a ha => ?_⟩
              have := (b3 a).mpr ha
              rw [e, e2] at this
              rcases List.mem_cons.mp this with z4 | z4
              · rw [z4]; exact nb
              · exact z3 a z4
        refine w_neg (by simp) (w_some (w_nH (nod b hb) (w_if (fun c1 => w_nK (nod b hb) (w_if (fun c2 => ?_) (fun c2 => w_neg (by simp) (w_some ?_)))) (fun c1 => rest (fun z => c1 (q1 z)) _))))
        · unfold hB_J39_getNode_69
          exact w_ret ⟨rfl, rfl, rfl, Or.inl ⟨b, rfl, hb, q2 c2⟩⟩
        · rcases q3 c1 c2 (nx + 0) with ⟨z1, z2⟩ | ⟨z1, z2⟩
          · refine w_call0 z2 (w_neg (by decide) ?_)
            unfold hB_J39_getNode_69
            exact w_ret ⟨rfl, rfl, rfl, Or.inl ⟨b, rfl, hb, z1⟩⟩
          · exact w_call0 z2 (w_pos rfl (rest z1 _))
    · rw [b2]
      obtain ⟨nxt, pv, lf, rt, pa, rd, ps, lo, hi', u1, u2, u3, u4, u5⟩ := b4
      have hb := (u2.2.2.2.1 r0 rfl).1
      obtain ⟨q1, q2, q3⟩ := hq r0 hb
      have rest : ∀ nx, wH (hB_J39_getNode_71 V o G nx (some ik) (some r0) (spr (hsh s))) (fun r G' c s' => G' = G ∧ c = 0 ∧ s' = 0 ∧ ((∃ a, r = some a ∧ Bin n N D (ix n (spr (hsh s))) a ∧ ks a = s) ∨ (r = none ∧ ∀ a, Bin n N D (ix n (spr (hsh s))) a → ks a ≠ s))) := by
        intro nx
        unfold hB_J39_getNode_71
        refine w_some (w_uN u1 hb (w_neg u5 (w_bind (v := 1) ?_ (w_neg (by decide) (w_pos (gok_at (u1 r0 hb).1 (by simp)) (w_pos (gC_at (u1 r0 hb).1) ?_))))))
        · show (if [21].any (gC G r0) = true then some (1 : Int32) else _) = _
          rw [if_pos (List.any_eq_true.mpr ⟨21, by simp, gC_at (u1 r0 hb).1⟩)]
        · obtain ⟨r, z1, z2⟩ := getTree_at (nx := nx) hV (by omega) u1 u2 (g6.sub (fun a ha => ha.1)) u3 hk
          exact w_call0 z1 (w_ret ⟨rfl, rfl, rfl, z2⟩)
      refine w_neg (by simp) (w_some (w_uH u1 hb (w_if (fun c1 => w_uK u1 hb (w_if (fun c2 => ?_) (fun c2 => w_neg (by simp) (w_some ?_)))) (fun c1 => rest _))))
      · unfold hB_J39_getNode_69
        exact w_ret ⟨rfl, rfl, rfl, Or.inl ⟨r0, rfl, hb, q2 c2⟩⟩
      · rcases q3 c1 c2 (nx + 0) with ⟨z1, z2⟩ | ⟨z1, z2⟩
        · refine w_call0 z2 (w_neg (by decide) ?_)
          unfold hB_J39_getNode_69
          exact w_ret ⟨rfl, rfl, rfl, Or.inl ⟨r0, rfl, hb, z1⟩⟩
        · exact w_call0 z2 (w_pos rfl (rest _))
  obtain ⟨r, G', c, s', e, rfl, rfl, rfl, q⟩ := hw
  refine ⟨r, e, ?_⟩
  rcases q with ⟨a, q1, q2, q3⟩ | ⟨q1, q2⟩
  · exact Or.inl ⟨a, q1, q2.1, q3⟩
  · exact Or.inr ⟨q1, fun a ha z => q2 a ⟨ha, by rw [(g6 a ha).2.2, z]⟩ z⟩
end M

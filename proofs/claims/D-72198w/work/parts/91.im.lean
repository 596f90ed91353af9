/-! PURE 22: maps from Integers to Integers -/
theorem nodup_sub {α : Type} [DecidableEq α] : ∀ {l m : List α}, l.Nodup → (∀ a ∈ l, a ∈ m) → l.length ≤ m.length
  | [], m, _, _ => Nat.zero_le _
  | a :: t, m, h, hs => by
    have h1 := List.nodup_cons.mp h
    have h2 : a ∈ m := hs a (by simp)
    have h3 := nodup_sub (l := t) (m := m.erase a) h1.2 (fun b hb => by
      have hne : b ≠ a := fun e => h1.1 (e ▸ hb)
      exact (List.mem_erase_of_ne hne).mpr (hs b (by simp [hb])))
    rw [List.length_erase_of_mem h2] at h3
    have : 0 < m.length := List.length_pos_of_mem h2
    simp; omega
theorem hash_int {V : HEn} {G : Gh} {nx ik x : Nat} (hik : G ik = some (.inr (26, [.int (nI x)]))) (hx : x < 128) : hF_J39_hash V G nx (some ik) = some (nI x, G, 0, 0) := by
  have key : ∀ x, x < 128 → nI x ^^^ (((nI x).toUInt32 >>> ((16 : Int32).toUInt32 &&& Int32.toUInt32 31)).toInt32) = nI x := by decide +kernel
  have hw : wH (hF_J39_hash V G nx (some ik)) (fun r G' c s => r = nI x ∧ G' = G ∧ c = 0 ∧ s = 0) := by
    unfold hF_J39_hash hB_J39_hash_19 hD_J39_hash_9 hF_J23_hashCode hF_J23_hashCode_2
    refine w_neg (by simp) (w_some ?_)
    apply w_cB
    refine w_pos (gC_at hik) (w_xI hik rfl rfl (w_call0 rfl (w_ret (w_ret ⟨key x hx, rfl, rfl, rfl⟩))))
  obtain ⟨r, G', c, s, e, rfl, rfl, rfl, rfl⟩ := hw
  exact e
theorem eqD_int {V : HEn} {G : Gh} {nx a b x y : Nat} (ha : G a = some (.inr (26, [.int (nI x)]))) (hb : G b = some (.inr (26, [.int (nI y)]))) (hx : x < 128) (hy : y < 128) : eqD V G nx a (some b) = some (if x = y then (1 : Int32) else 0, G, 0, 0) := by
  have hw : wH (eqD V G nx a (some b)) (fun r G' c s => r = (if x = y then (1 : Int32) else 0) ∧ G' = G ∧ c = 0 ∧ s = 0) := by
    unfold eqD hF_J23_equals hF_J23_intValue hB_J23_equals_26
    refine w_pos (gC_at ha) (w_bind (v := (1 : Int32)) ?_ (w_neg (by decide) (w_xI ha rfl rfl (w_pos (gok_at hb (by simp)) (w_some (w_pos (gC_at hb) ?_))))))
    · show (if [26].any (gC G b) = true then some (1 : Int32) else _) = _
      rw [if_pos (by simp [gC_at hb])]
    · apply w_cB
      refine w_xI hb rfl rfl (w_ret ?_)
      by_cases c : x = y
      · subst c
        refine w_pos rfl (w_pos rfl (w_ret ?_))
        simp
      · refine w_neg (fun z => c ((nI_eq (by omega) (by omega)).mp z)) (w_pos rfl (w_ret ?_))
        simp [c]
  obtain ⟨r, G', c, s, e, rfl, rfl, rfl, rfl⟩ := hw
  exact e
/-- the nodes hold the map M -/
def IMh (V : HEn) (G : Gh) (N : Nat → Prop) (hs : Nat → Int32) (kr vr : Nat → Option Nat) (ky vl : Nat → Nat) (M : Nat → Option Nat) : Prop :=
  (∀ a, N a → IsInt V G (kr a) (ky a) ∧ IsInt V G (vr a) (vl a) ∧ hs a = nI (ky a) ∧ ky a < 64 ∧ vl a < 128) ∧ (∀ a b, N a → N b → ky a = ky b → a = b) ∧ (∀ x v, M x = some v ↔ ∃ a, N a ∧ ky a = x ∧ vl a = v)
/-- a map from Integers to Integers at o; its cells lie in F -/
def IM (V : HEn) (G : Gh) (o hc : Nat) (F : Nat → Prop) (M : Nat → Option Nat) (cnt : Nat) : Prop :=
  F o ∧ V.1 ≤ o ∧ (hc = 19 ∨ hc = 22) ∧ ((∃ mc, HOb G o hc none (nI 0) mc 0 none ∧ cnt = 0 ∧ ∀ x, M x = none) ∨ (∃ nc td n N hs kr vr nxt bn tl mc ky vl, HMr V G o hc nc td n N hs kr vr nxt bn tl cnt mc ∧ IMh V G N hs kr vr ky vl M ∧ F td ∧ (∀ a, N a → F a)))
section I
variable {V : HEn} {G : Gh} {o hc nc td n nx ik cnt x : Nat} {N : Nat → Prop} {hs : Nat → Int32} {kr vr nxt : Nat → Option Nat} {bn : Nat → List Nat} {tl : Option Nat} {mc : Int32} {ky vl : Nat → Nat} {M : Nat → Option Nat} {F : Nat → Prop}
theorem IMh.key (h : IMh V G N hs kr vr ky vl M) (hik : IsInt V G (some ik) x) (hx : x < 64) : KeyQ V G ik (nI x) N hs kr (fun a => ky a = x) := by
  obtain ⟨i0, z0, z1, z2⟩ := hik
  cases z0
  intro a ha
  obtain ⟨⟨ka, q1, q2, q3⟩, -, q4, q5, -⟩ := h.1 a ha
  refine ⟨fun w => by rw [q4, w], fun w => ?_, fun w1 w2 nx => ?_⟩
  · rw [q1] at w; cases w
    rw [z2] at q3
    have := Option.some.inj q3
    have := (Prod.mk.inj (Sum.inr.inj this)).2
    have := Value.int.inj (List.cons.inj this).1
    exact ((nI_eq (by omega) (by omega)).mp this).symm
  · rw [q1, eqD_int z2 q3 (by omega) (by omega)]
    by_cases c : ky a = x
    · exact Or.inl ⟨c, by rw [if_pos c.symm]⟩
    · exact Or.inr ⟨c, by rw [if_neg (fun w => c w.symm)]⟩
theorem IMh.len (h : IMh V G N hs kr vr ky vl M) (hm : HMr V G o hc nc td n N hs kr vr nxt bn tl cnt mc) : ∀ i, i < n → (bn i).length ≤ 7 := by
  intro i hi
  obtain ⟨-, -, -, g5, g6, g7, -⟩ := hm
  have hmem : ∀ a ∈ bn i, N a ∧ ky a % n = i := by
    intro a ha
    obtain ⟨w1, w2⟩ := (g5 i hi a).mp ha
    refine ⟨w1, ?_⟩
    obtain ⟨-, -, q4, q5, -⟩ := h.1 a w1
    rw [q4] at w2
    rw [← w2]
    have key : ∀ k, k < 64 → ∀ n, n = 16 ∨ n = 32 ∨ n = 64 ∨ n = 128 → k % n = ix n (nI k) := by
      intro k hk n hn
      unfold ix
      have : (nI k).toBitVec.toNat = k := by
        have kk : ∀ k, k < 64 → (nI k).toBitVec.toNat = k := by decide +kernel
        exact kk k hk
      rw [this]
    exact key _ q5 n g7
  have nd : ((bn i).map ky).Nodup := by
    have : ∀ l : List Nat, l.Nodup → (∀ a ∈ l, N a) → (l.map ky).Nodup := by
      intro l
      induction l with
      | nil => intro _ _; simp
      | cons a t ih =>
        intro hl hN
        have hl2 := List.nodup_cons.mp hl
        rw [List.map_cons, List.nodup_cons]
        refine ⟨fun w => ?_, ih hl2.2 (fun b hb => hN b (by simp [hb]))⟩
        obtain ⟨b, hb, e⟩ := List.mem_map.mp w
        have := h.2.1 b a (hN b (by simp [hb])) (hN a (by simp)) e
        subst this
        exact hl2.1 hb
    exact this _ (g6 i hi) (fun a ha => (hmem a ha).1)
  have := nodup_sub nd (m := [i, i + 16, i + 32, i + 48]) (fun y hy => by
    obtain ⟨a, ha, e⟩ := List.mem_map.mp hy
    obtain ⟨w1, w2⟩ := hmem a ha
    have q5 := (h.1 a w1).2.2.2.1
    subst e
    simp
    rcases g7 with rfl | rfl | rfl | rfl <;> omega)
  rw [List.length_map] at this
  simp at this
  omega
theorem IM.keep {G' : Gh} (h : IM V G o hc F M cnt) (hk : ∀ a, F a → G' a = G a) (hc' : ∀ a, a < V.1 → G' a = G a) : IM V G' o hc F M cnt := by
  obtain ⟨h1, h2, h3, h4⟩ := h
  refine ⟨h1, h2, h3, ?_⟩
  rcases h4 with ⟨mc, q1, q2, q3⟩ | ⟨nc, td, n, N, hs, kr, vr, nxt, bn, tl, mc, ky, vl, q1, q2, q3, q4⟩
  · exact Or.inl ⟨mc, q1.keep (hk o h1), q2, q3⟩
  · obtain ⟨g1, ⟨tb, g2, g3⟩, g4, g5⟩ := q1
    refine Or.inr ⟨nc, td, n, N, hs, kr, vr, nxt, bn, tl, mc, ky, vl, ⟨g1.keep (hk o h1), ⟨tb, by rw [hk td q3]; exact g2, g3⟩, fun a ha => ⟨(g4 a ha).1.keep (hk a (q4 a ha)), (g4 a ha).2⟩, g5⟩, ⟨fun a ha => ?_, q2.2⟩, q3, q4⟩
    obtain ⟨w1, w2, w3⟩ := q2.1 a ha
    exact ⟨w1.keep hc', w2.keep hc', w3⟩
theorem IM.mono {F' : Nat → Prop} (h : IM V G o hc F M cnt) (hk : ∀ a, F a → F' a) : IM V G o hc F' M cnt := by
  obtain ⟨h1, h2, h3, h4⟩ := h
  refine ⟨hk o h1, h2, h3, ?_⟩
  rcases h4 with q | ⟨nc, td, n, N, hs, kr, vr, nxt, bn, tl, mc, ky, vl, q1, q2, q3, q4⟩
  · exact Or.inl q
  · exact Or.inr ⟨nc, td, n, N, hs, kr, vr, nxt, bn, tl, mc, ky, vl, q1, q2, hk td q3, fun a ha => hk a (q4 a ha)⟩
theorem IM.node (hV : 400 ≤ V.2.2.2.2) (h : IM V G o hc F M cnt) (hik : IsInt V G (some ik) x) (hx : x < 64) : ∃ r, hF_J39_getNode V G nx o (some ik) = some (r, G, 0, 0) ∧ ((∃ a v v' nc h' k' n', r = some a ∧ M x = some v ∧ IsInt V G v' v ∧ HNd G a nc h' k' v' n') ∨ (r = none ∧ M x = none)) := by
  obtain ⟨h1, h2, h3, h4⟩ := h
  rcases h4 with ⟨mc, q1, q2, q3⟩ | ⟨nc, td, n, N, hs, kr, vr, nxt, bn, tl, mc, ky, vl, q1, q2, q3, q4⟩
  · refine ⟨none, ?_, Or.inr ⟨rfl, q3 x⟩⟩
    have hw : wH (hF_J39_getNode V G nx o (some ik)) (fun r G' c s => r = none ∧ G' = G ∧ c = 0 ∧ s = 0) := by
      unfold hF_J39_getNode hB_J39_getNode_148
      exact w_hT q1 (w_pos rfl (w_ret ⟨rfl, rfl, rfl, rfl⟩))
    obtain ⟨r, G', c, s, e, rfl, rfl, rfl, rfl⟩ := hw
    exact e
  · have hik' := hik
    obtain ⟨i0, z0, z1, z2⟩ := hik'
    cases z0
    obtain ⟨r, e, q⟩ := getNode_at (nx := nx) (by omega) q1 (fun i hi => Nat.le_trans (q2.len q1 i hi) (by decide)) rfl rfl (fun nx => hash_int z2 (by omega)) (q2.key hik hx)
    refine ⟨r, e, ?_⟩
    rcases q with ⟨a, w1, w2, w3⟩ | ⟨w1, w2⟩
    · obtain ⟨p1, p2, p3⟩ := q2.1 a w2
      exact Or.inl ⟨a, vl a, vr a, nc, _, _, _, w1, (q2.2.2 x (vl a)).mpr ⟨a, w2, w3, rfl⟩, p2, (q1.2.2.1 a w2).1⟩
    · refine Or.inr ⟨w1, ?_⟩
      cases em : M x with
      | none => rfl
      | some v =>
        obtain ⟨a, p1, p2, -⟩ := (q2.2.2 x v).mp em
        exact absurd p2 (w2 a p1)
theorem IM.any (h : IM V G o hc F M cnt) : [19, 22].any (gC G o) = true := by
  obtain ⟨h1, h2, h3, h4⟩ := h
  rcases h4 with ⟨mc, q1, -⟩ | ⟨nc, td, n, N, hs, kr, vr, nxt, bn, tl, mc, ky, vl, q1, -⟩
  · exact q1.cls
  · exact q1.1.cls
theorem IM.has (hV : 400 ≤ V.2.2.2.2) (h : IM V G o hc F M cnt) (hik : IsInt V G (some ik) x) (hx : x < 64) : hF_J39_containsKey V G nx o (some ik) = some (if M x = none then (0 : Int32) else 1, G, 0, 0) := by
  obtain ⟨r, e, q⟩ := h.node (nx := nx) hV hik hx
  unfold hF_J39_containsKey
  rw [if_pos h.any, e]
  rcases q with ⟨a, v, v', nc, h', k', n', rfl, w1, -⟩ | ⟨rfl, w⟩
  · rw [w1]; rfl
  · rw [w]; rfl
theorem IM.get {v : Nat} (hV : 400 ≤ V.2.2.2.2) (h : IM V G o hc F M cnt) (hik : IsInt V G (some ik) x) (hx : x < 64) (hm : M x = some v) : ∃ r, hF_J39_get V G nx o (some ik) = some (r, G, 0, 0) ∧ IsInt V G r v := by
  obtain ⟨r, e, q⟩ := h.node (nx := nx) hV hik hx
  rcases q with ⟨a, v2, v', nc, h', k', n', rfl, w1, w2, w3⟩ | ⟨rfl, w⟩
  · rw [hm] at w1; cases w1
    refine ⟨v', ?_, w2⟩
    have hw : wH (hF_J39_get V G nx o (some ik)) (fun r G' c s => r = v' ∧ G' = G ∧ c = 0 ∧ s = 0) := by
      unfold hF_J39_get hB_J39_get_18
      exact w_pos h.any (w_call0 e (w_neg (by simp) (w_some (w_nV w3 (w_ret ⟨rfl, rfl, rfl, rfl⟩)))))
    obtain ⟨r, G', c, s, e, rfl, rfl, rfl, rfl⟩ := hw
    exact e
  · rw [hm] at w; cases w
theorem IM.cell22 (h : IM V G o 22 F M cnt) : ∃ fs, G o = some (.inr (22, fs)) ∧ xI G o fl_LinkedHashMap_accessOrder = some 0 := by
  obtain ⟨h1, h2, h3, h4⟩ := h
  have : ∃ tab sz mc th tl, HOb G o 22 tab sz mc th tl := by
    rcases h4 with ⟨mc, q1, -⟩ | ⟨nc, td, n, N, hs, kr, vr, nxt, bn, tl, mc, ky, vl, q1, -⟩
    · exact ⟨_, _, _, _, _, q1⟩
    · exact ⟨_, _, _, _, _, q1.1⟩
  obtain ⟨tab, sz, mc, th, tl, q⟩ := this
  rcases q with ⟨w, -⟩ | ⟨-, x0, x1, x3, lf, hd, e0, e⟩
  · cases w
  · exact ⟨_, e, xI_at e rfl rfl⟩
theorem IM.get22 {v : Nat} (hV : 400 ≤ V.2.2.2.2) (h : IM V G o 22 F M cnt) (hik : IsInt V G (some ik) x) (hx : x < 64) (hm : M x = some v) : ∃ r, hF_J46_get V G nx o (some ik) = some (r, G, 0, 0) ∧ IsInt V G r v := by
  obtain ⟨r, e, q⟩ := h.node (nx := nx) hV hik hx
  obtain ⟨fs, c1, c2⟩ := h.cell22
  rcases q with ⟨a, v2, v', nc, h', k', n', rfl, w1, w2, w3⟩ | ⟨rfl, w⟩
  · rw [hm] at w1; cases w1
    refine ⟨v', ?_, w2⟩
    have hw : wH (hF_J46_get V G nx o (some ik)) (fun r G' c s => r = v' ∧ G' = G ∧ c = 0 ∧ s = 0) := by
      unfold hF_J46_get hB_J46_get_24
      exact w_pos (gC_at c1) (w_call0 e (w_neg (by simp) (w_bind c2 (w_pos rfl (w_some (w_nV w3 (w_ret ⟨rfl, rfl, rfl, rfl⟩)))))))
    obtain ⟨r, G', c, s, e, rfl, rfl, rfl, rfl⟩ := hw
    exact e
  · rw [hm] at w; cases w
theorem IM.size (h : IM V G o hc F M cnt) : hF_J39_size V G nx o = some (nI cnt, G, 0, 0) := by
  obtain ⟨h1, h2, h3, h4⟩ := h
  have : ∃ tab mc th tl, HOb G o hc tab (nI cnt) mc th tl := by
    rcases h4 with ⟨mc, q1, q2, -⟩ | ⟨nc, td, n, N, hs, kr, vr, nxt, bn, tl, mc, ky, vl, q1, -⟩
    · rw [q2]; exact ⟨_, _, _, _, q1⟩
    · exact ⟨_, _, _, _, q1.1⟩
  obtain ⟨tab, mc, th, tl, q⟩ := this
  have hw : wH (hF_J39_size V G nx o) (fun r G' c s => r = nI cnt ∧ G' = G ∧ c = 0 ∧ s = 0) := by
    unfold hF_J39_size
    exact w_hS q (w_ret ⟨rfl, rfl, rfl, rfl⟩)
  obtain ⟨r, G', c, s, e, rfl, rfl, rfl, rfl⟩ := hw
  exact e
theorem IMh.add {G' : Gh} {iv v e : Nat} (h : IMh V G N hs kr vr ky vl M) (hik : IsInt V G' (some ik) x) (hiv : IsInt V G' (some iv) v) (hx : x < 64) (hv : v < 128) (hm : M x = none) (he : ¬ N e) (hk : ∀ a, a < V.1 → G' a = G a) : IMh V G' (inN N e) (va_up hs e (nI x)) (va_up kr e (some ik)) (va_up vr e (some iv)) (va_up ky e x) (va_up vl e v) (va_up M x (some v)) := by
  have nx0 : ∀ a, N a → ky a ≠ x := fun a ha w => by
    have := (h.2.2 x (vl a)).mpr ⟨a, ha, w, rfl⟩
    rw [hm] at this; cases this
  refine ⟨fun a ha => ?_, fun a b ha hb hab => ?_, fun y w => ?_⟩
  · by_cases c : a = e
    · subst c; simp only [up_eq]; exact ⟨hik, hiv, trivial, hx, hv⟩
    · simp only [up_ne _ _ c]
      have ha' : N a := by rcases ha with ha | ha; exact ha; exact absurd ha c
      obtain ⟨w1, w2, w3⟩ := h.1 a ha'
      exact ⟨w1.keep hk, w2.keep hk, w3⟩
  · by_cases ca : a = e
    · by_cases cb : b = e
      · rw [ca, cb]
      · have hb' : N b := by rcases hb with hb | hb; exact hb; exact absurd hb cb
        rw [ca, up_eq, up_ne _ _ cb] at hab
        exact absurd hab.symm (nx0 b hb')
    · have ha' : N a := by rcases ha with ha | ha; exact ha; exact absurd ha ca
      by_cases cb : b = e
      · rw [cb, up_eq, up_ne _ _ ca] at hab
        exact absurd hab (nx0 a ha')
      · have hb' : N b := by rcases hb with hb | hb; exact hb; exact absurd hb cb
        rw [up_ne _ _ ca, up_ne _ _ cb] at hab
        exact h.2.1 a b ha' hb' hab
  · by_cases c : y = x
    · subst c
      rw [up_eq]
      constructor
      · intro q; cases q; exact ⟨e, Or.inr rfl, up_eq _ _ _, up_eq _ _ _⟩
      · rintro ⟨a, p1, p2, p3⟩
        by_cases ca : a = e
        · subst ca; rw [up_eq] at p3; rw [p3]
        · have ha' : N a := by rcases p1 with p1 | p1; exact p1; exact absurd p1 ca
          rw [up_ne _ _ ca] at p2
          exact absurd p2 (nx0 a ha')
    · rw [up_ne _ _ c, h.2.2 y w]
      constructor
      · rintro ⟨a, p1, p2, p3⟩
        have ca : a ≠ e := fun q => he (q ▸ p1)
        exact ⟨a, Or.inl p1, by rw [up_ne _ _ ca]; exact p2, by rw [up_ne _ _ ca]; exact p3⟩
      · rintro ⟨a, p1, p2, p3⟩
        by_cases ca : a = e
        · subst ca; rw [up_eq] at p2; exact absurd p2.symm c
        · rw [up_ne _ _ ca] at p2 p3
          exact ⟨a, by rcases p1 with p1 | p1; exact p1; exact absurd p1 ca, p2, p3⟩
theorem IM.put {iv v : Nat} (hV : 400 ≤ V.2.2.2.2) (h : IM V G o hc F M cnt) (hik : IsInt V G (some ik) x) (hiv : IsInt V G (some iv) v) (hx : x < 64) (hv : v < 128) (hm : M x = none) (hcnt : cnt < 96) (hold : ∀ a, F a → a < nx) :
    wH (hF_J39_put V G nx o (some ik) (some iv)) (fun r G' c s => c ≤ 3 ∧ s ≤ 150 ∧ IM V G' o hc (fun a => F a ∨ (nx ≤ a ∧ a < nx + c)) (va_up M x (some v)) (cnt + 1) ∧ ∀ b, ¬ F b → b < nx → G' b = G b) := by
  have hik' := hik
  obtain ⟨i0, z0, z1, z2⟩ := hik'
  cases z0
  obtain ⟨h1, h2, h3, h4⟩ := h
  have hox := hold o h1
  rcases h4 with ⟨mc, q1, q2, q3⟩ | ⟨nc, td, n, N, hs, kr, vr, nxt, bn, tl, mc, ky, vl, q1, q2, q3, q4⟩
  · subst q2
    refine w_mono (hm_put0 (nc := if hc = 19 then 20 else 23) hV q1 (by rcases h3 with rfl | rfl; exact Or.inl ⟨rfl, rfl⟩; exact Or.inr ⟨rfl, rfl⟩) h2 hox (fun nx => hash_int z2 (by omega)) (fun _ => 0) (fun _ => none) (fun _ => none)) ?_
    rintro r G' c s ⟨p1, p2, p3, ⟨td', n', nxt', bn', tl', p4, p5⟩, p6, p7⟩
    have kb : ∀ a, a < V.1 → G' a = G a := fun a ha => p7 a (by omega) (by omega)
    refine ⟨p2, p3, ⟨Or.inl h1, h2, h3, Or.inr ⟨_, td', n', _, _, _, _, nxt', bn', tl', mc + 1, va_up (fun _ => 0) (nx + 1) x, va_up (fun _ => 0) (nx + 1) v, p4, ?_, Or.inr p5, fun a ha => ?_⟩⟩, fun b b1 b2 => p7 b (fun w => b1 (w ▸ h1)) b2⟩
    · exact IMh.add (N := fun _ => False) (G := G) ⟨fun a ha => ha.elim, fun a b ha => ha.elim, fun y w => by rw [q3 y]; simp⟩ (hik.keep kb) (hiv.keep kb) hx hv (q3 x) (fun z => z) kb
    · rcases ha with ha | ha
      · exact ha.elim
      · exact Or.inr (by omega)
  · refine w_mono (hm_put hV q1 (by omega) (q2.len q1) ⟨hox, hold td q3, fun a ha => hold a (q4 a ha)⟩ (fun nx => hash_int z2 (by omega)) (q2.key hik hx) (fun a ha w => ?_)) ?_
    · have := (q2.2.2 x (vl a)).mpr ⟨a, ha, w, rfl⟩
      rw [hm] at this; cases this
    · rintro r G' c s ⟨p1, p2, p3, ⟨td', n', nxt', bn', tl', p4, p5⟩, p6, p7⟩
      have hg := q1.2.2.1
      have htd := q1.2.2.2.2.2.2.2.1
      have kb : ∀ a, a < V.1 → G' a = G a := fun a ha => p7 a (fun w => by have := (hg a w).2.1; omega) (by omega) (by omega) (by omega)
      refine ⟨by omega, by omega, ⟨Or.inl h1, h2, h3, Or.inr ⟨_, td', n', _, _, _, _, nxt', bn', tl', mc + 1, va_up ky nx x, va_up vl nx v, p4, ?_, ?_, fun a ha => ?_⟩⟩, fun b b1 b2 => p7 b (fun w => b1 (q4 b w)) (fun w => b1 (w ▸ h1)) (fun w => b1 (w ▸ q3)) b2⟩
      · exact q2.add (hik.keep kb) (hiv.keep kb) hx hv hm (fun w => by have := hold nx (q4 nx w); omega) kb
      · rcases p5 with rfl | p5
        · exact Or.inl q3
        · exact Or.inr p5
      · rcases ha with ha | ha
        · exact Or.inl (q4 a ha)
        · exact Or.inr (by omega)
theorem IM.new (hb : V.1 ≤ o) (h : G o = some (.inr (19, [.null, .null, .null, .null, .int 0, .int 0, .int 0, .float 0]))) : wH (hF_J39_init V G nx o) (fun _ G' c s => c = 0 ∧ s = 0 ∧ IM V G' o 19 (fun a => a = o) (fun _ => none) 0 ∧ ∀ b, b ≠ o → G' b = G b) := by
  unfold hF_J39_init hF_J3_init
  refine w_call0 (r := ()) (G := G) rfl (w_xF h rfl (Nat.le_of_ble_eq_true rfl) hb rfl (w_ret ⟨rfl, rfl, ⟨rfl, hb, Or.inl rfl, Or.inl ⟨0, Or.inl ⟨rfl, rfl, none, none, none, _, gset_eq _ _ _⟩, rfl, fun _ => rfl⟩⟩, fun b hb => gset_ne _ _ hb⟩))
theorem IM.new22 (hb : V.1 ≤ o) (h : G o = some (.inr (22, [.null, .null, .null, .null, .int 0, .int 0, .int 0, .float 0, .null, .null, .int 0, .int 0]))) : wH (hF_J46_init V G nx o) (fun _ G' c s => c = 0 ∧ s = 0 ∧ IM V G' o 22 (fun a => a = o) (fun _ => none) 0 ∧ ∀ b, b ≠ o → G' b = G b) := by
  unfold hF_J46_init hF_J39_init hF_J3_init
  apply w_cB
  refine w_call0 (r := ()) (G := G) rfl (w_xF h rfl (Nat.le_of_ble_eq_true rfl) hb rfl (w_ret (w_xF (gset_eq _ _ _) rfl (Nat.le_of_ble_eq_true rfl) hb rfl (w_xF (gset_eq _ _ _) rfl (Nat.le_of_ble_eq_true rfl) hb rfl (w_ret ⟨rfl, rfl, ⟨rfl, hb, Or.inr rfl, Or.inl ⟨0, Or.inr ⟨rfl, none, none, none, _, none, fun _ => rfl, gset_eq _ _ _⟩, rfl, fun _ => rfl⟩⟩, fun b hb => by simp only [gset_ne _ _ hb]⟩)))))
end I

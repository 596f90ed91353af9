/-! PURE 41: the map of texts, by the order in which they came -/
/-- a HashMap of Strings at o: K[j] has the value j; its cells lie in F -/
def SMap (V : HEn) (G : Gh) (o : Nat) (F : Nat → Prop) (K : List (List Nat)) : Prop :=
  F o ∧ V.1 ≤ o ∧ K.Nodup ∧ ((∃ mc, HOb G o 19 none (nI 0) mc 0 none ∧ K = []) ∨
  (∃ td n N D ko kd ks tb mc, SMb V G o td n N D ko kd ks tb K.length mc K.length ∧ Cnt N K.length ∧ F td ∧ (∀ a, N a → F a ∧ F (ko a) ∧ F (kd a)) ∧ (∀ a, N a → ∃ j, K[j]? = some (ks a) ∧ IsInt V G (D a).2.2 j) ∧ ∀ s ∈ K, ∃ a, N a ∧ ks a = s))
section M
variable {V : HEn} {G : Gh} {o nx ik id : Nat} {F : Nat → Prop} {K : List (List Nat)} {s : List Nat} {st : Prop}
theorem SMap.keep {G' : Gh} (h : SMap V G o F K) (hk : ∀ a, F a → G' a = G a) (hc : ∀ a, a < V.1 → G' a = G a) : SMap V G' o F K := by
  obtain ⟨h1, h2, h3, h4⟩ := h
  refine ⟨h1, h2, h3, ?_⟩
  rcases h4 with ⟨mc, q1, q2⟩ | ⟨td, n, N, D, ko, kd, ks, tb, mc, q1, q2, q3, q4, q5, q6⟩
  · exact Or.inl ⟨mc, q1.keep (hk o h1), q2⟩
  · refine Or.inr ⟨td, n, N, D, ko, kd, ks, tb, mc, q1.keep (hk o h1) (hk td q3) (fun a ha => ⟨hk _ (q4 a ha).1, hk _ (q4 a ha).2.1, hk _ (q4 a ha).2.2⟩), q2, q3, q4, fun a ha => ?_, q6⟩
    obtain ⟨j, j1, j2⟩ := q5 a ha
    exact ⟨j, j1, j2.keep hc⟩
theorem SMap.mono {F' : Nat → Prop} (h : SMap V G o F K) (hk : ∀ a, F a → F' a) : SMap V G o F' K := by
  obtain ⟨h1, h2, h3, h4⟩ := h
  refine ⟨hk o h1, h2, h3, ?_⟩
  rcases h4 with q | ⟨td, n, N, D, ko, kd, ks, tb, mc, q1, q2, q3, q4, q5, q6⟩
  · exact Or.inl q
  · exact Or.inr ⟨td, n, N, D, ko, kd, ks, tb, mc, q1, q2, hk td q3, fun a ha => ⟨hk _ (q4 a ha).1, hk _ (q4 a ha).2.1, hk _ (q4 a ha).2.2⟩, q5, q6⟩
theorem SMap.any (h : SMap V G o F K) : [19, 22].any (gC G o) = true := by
  obtain ⟨h1, h2, h3, h4⟩ := h
  rcases h4 with ⟨mc, q1, q2⟩ | ⟨td, n, N, D, ko, kd, ks, tb, mc, q1, -⟩
  · exact q1.cls
  · exact q1.1.cls
theorem SMap.gC (h : SMap V G o F K) : gC G o 19 = true := by
  obtain ⟨h1, h2, h3, h4⟩ := h
  have : ∃ tab sz mc th, HOb G o 19 tab sz mc th none := by
    rcases h4 with ⟨mc, q1, q2⟩ | ⟨td, n, N, D, ko, kd, ks, tb, mc, q1, -⟩
    · exact ⟨_, _, _, _, q1⟩
    · exact ⟨_, _, _, _, q1.1⟩
  obtain ⟨tab, sz, mc, th, q⟩ := this
  rcases q with ⟨-, -, x0, x1, x3, lf, e⟩ | ⟨w, -⟩
  · exact gC_at e
  · cases w
theorem SMap.size (h : SMap V G o F K) : hF_J39_size V G nx o = some (nI K.length, G, 0, 0) := by
  obtain ⟨h1, h2, h3, h4⟩ := h
  have : ∃ tab mc th tl, HOb G o 19 tab (nI K.length) mc th tl := by
    rcases h4 with ⟨mc, q1, q2⟩ | ⟨td, n, N, D, ko, kd, ks, tb, mc, q1, -⟩
    · rw [q2]; exact ⟨_, _, _, _, q1⟩
    · exact ⟨_, _, _, _, q1.1⟩
  obtain ⟨tab, mc, th, tl, q⟩ := this
  have hw : wH (hF_J39_size V G nx o) (fun r G' c s => r = nI K.length ∧ G' = G ∧ c = 0 ∧ s = 0) := by
    unfold hF_J39_size
    exact w_hS q (w_ret ⟨rfl, rfl, rfl, rfl⟩)
  obtain ⟨r, G', c, s, e, rfl, rfl, rfl, rfl⟩ := hw
  exact e
theorem SMap.new (hb : V.1 ≤ o) (h : G o = some (.inr (19, [.null, .null, .null, .null, .int 0, .int 0, .int 0, .float 0]))) : wH (hF_J39_init V G nx o) (fun _ G' c s => c = 0 ∧ s = 0 ∧ SMap V G' o (fun b => b = o) [] ∧ ∀ b, b ≠ o → G' b = G b) := by
  unfold hF_J39_init
  refine w_call0 (r := ()) (G := G) rfl (w_xF h rfl (Nat.le_of_ble_eq_true rfl) hb rfl (w_ret ⟨rfl, rfl, ⟨rfl, hb, List.nodup_nil, Or.inl ⟨0, Or.inl ⟨rfl, rfl, none, none, none, _, gset_eq _ _ _⟩, rfl⟩⟩, fun b hb => gset_ne _ _ hb⟩))
/-- is it there: the String's hash is settled then -/
theorem SMap.has (hV : 1200 ≤ V.2.2.2.2) (h : SMap V G o F K) (hK : K.length ≤ 200) (hk : Str V G ik id s False) (hb : V.1 ≤ ik) (h1 : ¬ F ik) : wH (hF_J39_containsKey V G nx o (some ik)) (fun r G' c s' => r = (if s ∈ K then 1 else 0) ∧ c = 0 ∧ s' = 0 ∧ Str V G' ik id s (s ∈ K) ∧ ∀ b, b ≠ ik → G' b = G b) := by
  have h0 := h
  obtain ⟨e1, e2, e3, e4⟩ := h
  unfold hF_J39_containsKey hB_J39_containsKey_13
  refine w_pos h0.any ?_
  rcases e4 with ⟨mc, q1, q2⟩ | ⟨td, n, N, D, ko, kd, ks, tb, mc, q1, q2, q3, q4, q5, q6⟩
  · refine w_call0 (r := none) (G := G) ?_ (w_pos rfl (w_pos (by decide) (w_ret ⟨by rw [q2, if_neg (by simp)], rfl, rfl, ?_, fun _ _ => rfl⟩)))
    · have hw : wH (hF_J39_getNode V G nx o (some ik)) (fun r G' c s => r = none ∧ G' = G ∧ c = 0 ∧ s = 0) := by
        unfold hF_J39_getNode hB_J39_getNode_148
        exact w_hT q1 (w_pos rfl (w_ret ⟨rfl, rfl, rfl, rfl⟩))
      obtain ⟨r, G', c, s, e, rfl, rfl, rfl, rfl⟩ := hw
      exact e
    · have : (s ∈ K) = False := by rw [q2]; simp
      rw [this]; exact hk
  · obtain ⟨r0, G1, c1, s1, hh, rfl, rfl, rfl, k1, k2⟩ := str_spr0 (nx := nx) hV hk hb
    have neF : ∀ x, F x → x ≠ ik := fun x hx z => h1 (z ▸ hx)
    have q1' : SMb V G1 o td n N D ko kd ks tb K.length mc K.length := q1.keep (k2 o (neF o e1)) (k2 td (neF td q3)) (fun a ha => ⟨k2 _ (neF _ (q4 a ha).1), k2 _ (neF _ (q4 a ha).2.1), k2 _ (neF _ (q4 a ha).2.2)⟩)
    obtain ⟨r, z1, z2⟩ := sm_node (nx := nx) hV q1' hK (k2 o (neF o e1)).symm (k2 td (neF td q3)).symm hh k1
    refine w_call0 z1 ?_
    rcases z2 with ⟨a, rfl, z2, z3⟩ | ⟨rfl, z2⟩
    · have sK : s ∈ K := by
        obtain ⟨j, j1, j2⟩ := q5 a z2
        rw [← z3]; exact List.mem_of_getElem? j1
      refine w_neg (by simp) (w_pos (by decide) (w_ret ⟨by rw [if_pos sK], rfl, rfl, ?_, k2⟩))
      rw [eq_true sK]; exact k1
    · have sK : ¬ s ∈ K := fun w => by
        obtain ⟨a, a1, a2⟩ := q6 s w
        exact z2 a a1 a2
      refine w_pos rfl (w_pos (by decide) (w_ret ⟨by rw [if_neg sK], rfl, rfl, ?_, k2⟩))
      rw [eq_false sK]; exact k1.any
/-- its value -/
theorem SMap.get (hV : 1200 ≤ V.2.2.2.2) (h : SMap V G o F K) (hK : K.length ≤ 200) (hk : Str V G ik id s True) (hs : s ∈ K) : ∃ r j, hF_J39_get V G nx o (some ik) = some (r, G, 0, 0) ∧ K[j]? = some s ∧ IsInt V G r j := by
  have h0 := h
  obtain ⟨e1, e2, e3, e4⟩ := h
  rcases e4 with ⟨mc, q1, q2⟩ | ⟨td, n, N, D, ko, kd, ks, tb, mc, q1, q2, q3, q4, q5, q6⟩
  · rw [q2] at hs; simp at hs
  · obtain ⟨r, z1, z2⟩ := sm_node (nx := nx) hV q1 hK rfl rfl (str_spr hk) hk
    rcases z2 with ⟨a, rfl, z2, z3⟩ | ⟨rfl, z2⟩
    · obtain ⟨j, j1, j2⟩ := q5 a z2
      refine ⟨(D a).2.2, j, ?_, by rw [← z3]; exact j1, j2⟩
      have hw : wH (hF_J39_get V G nx o (some ik)) (fun r G' c s => r = (D a).2.2 ∧ G' = G ∧ c = 0 ∧ s = 0) := by
        unfold hF_J39_get hB_J39_get_18
        refine w_pos h0.any (w_call0 z1 (w_neg (by simp) (w_some ?_)))
        obtain ⟨g1, g2, g3, g4, g5, g6, g7, g8, g9, g10⟩ := q1
        rcases g10 _ (ix_lt g2 (D a).1) with ⟨L, nxt, b1, b2, b3, b4, b5⟩ | ⟨b1, r0, k, b2, b3, b4⟩
        · exact w_nV (b5 a ((b3 a).mpr ⟨z2, rfl⟩)) (w_ret ⟨rfl, rfl, rfl, rfl⟩)
        · obtain ⟨nxt, pv, lf, rt, pa, rd, ps, lo, hi', u1, -⟩ := b4
          exact w_uV u1 ⟨z2, rfl⟩ (w_ret ⟨rfl, rfl, rfl, rfl⟩)
      obtain ⟨r, G', c, s, e, rfl, rfl, rfl, rfl⟩ := hw
      exact e
    · obtain ⟨a, a1, a2⟩ := q6 s hs
      exact absurd a2 (z2 a a1)
end M

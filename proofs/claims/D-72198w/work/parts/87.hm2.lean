/-! PURE 18: HashMap with bins that are lists: getNode -/
def Chn (nxt : Nat → Option Nat) : Option Nat → List Nat → Prop
  | r, [] => r = none
  | r, a :: t => r = some a ∧ Chn nxt (nxt a) t
theorem Chn.congr {nxt nxt' : Nat → Option Nat} : ∀ {r : Option Nat} {l : List Nat}, Chn nxt r l → (∀ a ∈ l, nxt' a = nxt a) → Chn nxt' r l
  | _, [], h, _ => h
  | _, a :: t, h, e => ⟨h.1, by rw [e a (by simp)]; exact Chn.congr h.2 (fun b hb => e b (by simp [hb]))⟩
/-- a map with its table at td of n places -/
def HMr (V : HEn) (G : Gh) (o hc nc td n : Nat) (N : Nat → Prop) (hs : Nat → Int32) (kr vr nxt : Nat → Option Nat) (bn : Nat → List Nat) (tl : Option Nat) (cnt : Nat) (mc : Int32) : Prop :=
  HOb G o hc (some td) (nI cnt) mc (nI (n / 4 * 3)) tl ∧
  (∃ tb, G td = some (.inl (V.2.1 4, n, .inr (.inr (.inr (.inr tb))))) ∧ ∀ i, i < n → Chn nxt (tb i) (bn i)) ∧
  (∀ a, N a → HNd G a nc (hs a) (kr a) (vr a) (nxt a) ∧ V.1 ≤ a ∧ a ≠ o ∧ a ≠ td) ∧
  (∀ i, i < n → ∀ a, a ∈ bn i ↔ (N a ∧ ix n (hs a) = i)) ∧
  (∀ i, i < n → (bn i).Nodup) ∧ pw n ∧ V.1 ≤ o ∧ V.1 ≤ td ∧ o ≠ td ∧ (∀ t, tl = some t → N t) ∧ ((hc = 19 ∧ nc = 20) ∨ (hc = 22 ∧ nc = 23))
/-- equals, as the map asks it -/
def eqD (V : HEn) (G : Gh) (nx : Nat) (b : Nat) (x0 : Option Nat) : HO (Int32) :=
  if gC G b 26 = true then hF_J23_equals V G nx b x0 else (if gC G b 25 = true then hF_J7_equals V G nx b x0 else (none))
/-- how the key at ik answers to the nodes: P: its own -/
def KeyQ (V : HEn) (G : Gh) (ik : Nat) (sp : Int32) (N : Nat → Prop) (hs : Nat → Int32) (kr : Nat → Option Nat) (P : Nat → Prop) : Prop :=
  ∀ a, N a → (P a → hs a = sp) ∧ (kr a = some ik → P a) ∧ (hs a = sp → ¬ kr a = some ik → ∀ nx, (P a ∧ eqD V G nx ik (kr a) = some (1, G, 0, 0)) ∨ (¬ P a ∧ eqD V G nx ik (kr a) = some (0, G, 0, 0)))
section H
variable {V : HEn} {G : Gh} {o hc nc td n nx ik cnt : Nat} {N P : Nat → Prop} {hs : Nat → Int32} {kr vr nxt : Nat → Option Nat} {bn : Nat → List Nat} {tl : Option Nat} {mc sp : Int32}
theorem get_scan (hN : ∀ a, N a → HNd G a nc (hs a) (kr a) (vr a) (nxt a)) (hq : KeyQ V G ik sp N hs kr P) : ∀ (t : List Nat) (b m nx : Nat), N b → (∀ a ∈ t, N a) → Chn nxt (nxt b) t → t.length + 1 ≤ m → ∃ r, hL_J39_getNode_99 V o m G nx (some ik) (some b) sp = some (r, G, 0, 0) ∧ ((∃ a, r = some a ∧ N a ∧ P a) ∨ (r = none ∧ ∀ a ∈ b :: t, ¬ P a)) := by
  intro t
  induction t with
  | nil =>
    intro b m nx hb ht hc hm
    obtain ⟨m, rfl⟩ := Nat.exists_eq_succ_of_ne_zero (show m ≠ 0 by omega)
    obtain ⟨q1, q2, q3⟩ := hq b hb
    have e0 : nxt b = none := hc
    have rest : ∀ nx, wH (hB_J39_getNode_137 V o (hL_J39_getNode_99 V o m) G nx (some ik) (some b) sp) (fun r G' c s => r = none ∧ G' = G ∧ c = 0 ∧ s = 0) := by
      intro nx
      unfold hB_J39_getNode_137 hB_J39_getNode_148
      refine w_some (w_nN (hN b hb) ?_)
      rw [e0]
      exact w_pos rfl (w_ret ⟨rfl, rfl, rfl, rfl⟩)
    have hw : wH (hL_J39_getNode_99 V o (m + 1) G nx (some ik) (some b) sp) (fun r G' c s => G' = G ∧ c = 0 ∧ s = 0 ∧ ((∃ a, r = some a ∧ N a ∧ P a) ∨ (r = none ∧ ∀ a ∈ [b], ¬ P a))) := by
      rw [hL_J39_getNode_99]
      refine w_some (w_nH (hN b hb) (w_if (fun c1 => w_nK (hN b hb) (w_if (fun c2 => ?_) (fun c2 => w_neg (by simp) (w_some ?_)))) (fun c1 => ?_)))
      · unfold hB_J39_getNode_134
        exact w_ret ⟨rfl, rfl, rfl, Or.inl ⟨b, rfl, hb, q2 c2⟩⟩
      · rcases q3 c1 c2 nx with ⟨z1, z2⟩ | ⟨z1, z2⟩
        · refine w_call0 z2 (w_neg (by decide) ?_)
          unfold hB_J39_getNode_134
          exact w_ret ⟨rfl, rfl, rfl, Or.inl ⟨b, rfl, hb, z1⟩⟩
        · refine w_call0 z2 (w_pos rfl (w_mono (rest _) ?_))
          rintro r G' c s ⟨rfl, rfl, rfl, rfl⟩
          exact ⟨rfl, rfl, rfl, Or.inr ⟨rfl, by simpa using z1⟩⟩
      · refine w_mono (rest _) ?_
        rintro r G' c s ⟨rfl, rfl, rfl, rfl⟩
        exact ⟨rfl, rfl, rfl, Or.inr ⟨rfl, by simpa using fun z => c1 (q1 z)⟩⟩
    obtain ⟨r, G', c, s, e, rfl, rfl, rfl, q⟩ := hw
    exact ⟨r, e, q⟩
  | cons d t ih =>
    intro b m nx hb ht hc hm
    obtain ⟨m, rfl⟩ := Nat.exists_eq_succ_of_ne_zero (show m ≠ 0 by omega)
    obtain ⟨q1, q2, q3⟩ := hq b hb
    obtain ⟨e0, e1⟩ := hc
    have hd : N d := ht d (by simp)
    have rest : ¬ P b → ∀ nx, wH (hB_J39_getNode_137 V o (hL_J39_getNode_99 V o m) G nx (some ik) (some b) sp) (fun r G' c s => G' = G ∧ c = 0 ∧ s = 0 ∧ ((∃ a, r = some a ∧ N a ∧ P a) ∨ (r = none ∧ ∀ a ∈ b :: d :: t, ¬ P a))) := by
      intro nb nx
      unfold hB_J39_getNode_137
      refine w_some (w_nN (hN b hb) ?_)
      rw [e0]
      refine w_neg (by simp) ?_
      obtain ⟨r, z1, z2⟩ := ih d m nx hd (fun a ha => ht a (by simp [ha])) e1 (by simp at hm; omega)
      refine ⟨r, G, 0, 0, z1, rfl, rfl, rfl, ?_⟩
      rcases z2 with z2 | ⟨z2, z3⟩
      · exact Or.inl z2
      · refine Or.inr ⟨z2, fun a ha => ?_⟩
        rcases List.mem_cons.mp ha with rfl | ha
        · exact nb
        · exact z3 a ha
    have hw : wH (hL_J39_getNode_99 V o (m + 1) G nx (some ik) (some b) sp) (fun r G' c s => G' = G ∧ c = 0 ∧ s = 0 ∧ ((∃ a, r = some a ∧ N a ∧ P a) ∨ (r = none ∧ ∀ a ∈ b :: d :: t, ¬ P a))) := by
      rw [hL_J39_getNode_99]
      refine w_some (w_nH (hN b hb) (w_if (fun c1 => w_nK (hN b hb) (w_if (fun c2 => ?_) (fun c2 => w_neg (by simp) (w_some ?_)))) (fun c1 => ?_)))
      · unfold hB_J39_getNode_134
        exact w_ret ⟨rfl, rfl, rfl, Or.inl ⟨b, rfl, hb, q2 c2⟩⟩
      · rcases q3 c1 c2 nx with ⟨z1, z2⟩ | ⟨z1, z2⟩
        · refine w_call0 z2 (w_neg (by decide) ?_)
          unfold hB_J39_getNode_134
          exact w_ret ⟨rfl, rfl, rfl, Or.inl ⟨b, rfl, hb, z1⟩⟩
        · exact w_call0 z2 (w_pos rfl (rest z1 _))
      · exact rest (fun z => c1 (q1 z)) _
    obtain ⟨r, G', c, s, e, rfl, rfl, rfl, q⟩ := hw
    exact ⟨r, e, q⟩
theorem getNode_at {G0 : Gh} (hV : 200 ≤ V.2.2.2.2) (h : HMr V G o hc nc td n N hs kr vr nxt bn tl cnt mc) (hlen : ∀ i, i < n → (bn i).length ≤ 100) (ho : G0 o = G o) (ht : G0 td = G td) (hh : ∀ nx, hF_J39_hash V G0 nx (some ik) = some (sp, G, 0, 0)) (hq : KeyQ V G ik sp N hs kr P) :
    ∃ r, hF_J39_getNode V G0 nx o (some ik) = some (r, G, 0, 0) ∧ ((∃ a, r = some a ∧ N a ∧ P a) ∨ (r = none ∧ ∀ a, N a → ¬ P a)) := by
  obtain ⟨h1, ⟨tb, h2, h3⟩, h4, h5, h6, h7, h8⟩ := h
  have hn : 0 < n ∧ n ≤ 128 := by rcases h7 with rfl | rfl | rfl | rfl <;> decide
  have hi := ix_lt h7 sp
  have hw : wH (hF_J39_getNode V G0 nx o (some ik)) (fun r G' c s => G' = G ∧ c = 0 ∧ s = 0 ∧ ((∃ a, r = some a ∧ N a ∧ P a) ∨ (r = none ∧ ∀ a ∈ bn (ix n sp), ¬ P a))) := by
    unfold hF_J39_getNode
    refine w_hT (h1.keep ho) (w_neg (by simp) (w_some (w_aln (ht.trans h2) (w_neg (fun z => nI_nle hn.1 (by omega) z) (w_call0 (hh _) ?_)))))
    rw [ix_eq h7]
    refine w_rdR h2 (gd_nI hi (by omega)) ?_
    have hc := h3 _ hi
    cases e : bn (ix n sp) with
    | nil =>
      rw [e] at hc
      have hc : tb (ix n sp) = none := hc
      rw [hc]
      unfold hB_J39_getNode_148
      exact w_pos rfl (w_ret ⟨rfl, rfl, rfl, Or.inr ⟨rfl, by simp⟩⟩)
    | cons b t =>
      rw [e] at hc
      obtain ⟨hc1, hc2⟩ := hc
      rw [hc1]
      have mem : ∀ a ∈ b :: t, N a := fun a ha => ((h5 _ hi a).mp (by rw [e]; exact ha)).1
      have hb : N b := mem b (by simp)
      obtain ⟨q1, q2, q3⟩ := hq b hb
      have rest : ¬ P b → ∀ nx, wH (hB_J39_getNode_71 V o G nx (some ik) (some b) sp) (fun r G' c s => G' = G ∧ c = 0 ∧ s = 0 ∧ ((∃ a, r = some a ∧ N a ∧ P a) ∨ (r = none ∧ ∀ a ∈ b :: t, ¬ P a))) := by
        intro nb nx
        unfold hB_J39_getNode_71 hB_J39_getNode_148
        refine w_some (w_nN (h4 b hb).1 ?_)
        cases e2 : t with
        | nil =>
          rw [e2] at hc2
          have hc2 : nxt b = none := hc2
          rw [hc2]
          exact w_pos rfl (w_ret ⟨rfl, rfl, rfl, Or.inr ⟨rfl, by simpa using nb⟩⟩)
        | cons d t' =>
          rw [e2] at hc2
          obtain ⟨hd1, hd2⟩ := hc2
          rw [hd1]
          refine w_neg (by simp) (w_bind (h4 b hb).1.gin (w_pos rfl ?_))
          have := hlen _ hi
          rw [e, e2] at this
          obtain ⟨r, z1, z2⟩ := get_scan (o := o) (fun a ha => (h4 a ha).1) hq t' d V.2.2.2.2 nx (mem d (by simp [e2])) (fun a ha => mem a (by simp [e2, ha])) hd2 (by simp at this; omega)
          refine ⟨r, G, 0, 0, z1, rfl, rfl, rfl, ?_⟩
          rcases z2 with z2 | ⟨z2, z3⟩
          · exact Or.inl z2
          · refine Or.inr ⟨z2, fun a ha => ?_⟩
            rcases List.mem_cons.mp ha with rfl | ha
            · exact nb
            · exact z3 a ha
      refine w_neg (by simp) (w_some (w_nH (h4 b hb).1 (w_if (fun c1 => w_nK (h4 b hb).1 (w_if (fun c2 => ?_) (fun c2 => w_neg (by simp) (w_some ?_)))) (fun c1 => rest (fun z => c1 (q1 z)) _))))
      · unfold hB_J39_getNode_69
        exact w_ret ⟨rfl, rfl, rfl, Or.inl ⟨b, rfl, hb, q2 c2⟩⟩
      · rcases q3 c1 c2 (nx + 0) with ⟨z1, z2⟩ | ⟨z1, z2⟩
        · refine w_call0 z2 (w_neg (by decide) ?_)
          unfold hB_J39_getNode_69
          exact w_ret ⟨rfl, rfl, rfl, Or.inl ⟨b, rfl, hb, z1⟩⟩
        · exact w_call0 z2 (w_pos rfl (rest z1 _))
  obtain ⟨r, G', c, s, e, rfl, rfl, rfl, q⟩ := hw
  refine ⟨r, e, ?_⟩
  rcases q with q | ⟨q1, q2⟩
  · exact Or.inl q
  · refine Or.inr ⟨q1, fun a ha z => ?_⟩
    refine q2 a ((h5 _ hi a).mpr ⟨ha, ?_⟩) z
    rw [(hq a ha).1 z]
end H

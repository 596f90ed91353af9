/-! PURE 20: HashMap.put of a key that isn't there -/
section H
variable {V : HEn} {G : Gh} {o hc nc td n nx ik cnt : Nat} {N P : Nat → Prop} {hs : Nat → Int32} {kr vr nxt : Nat → Option Nat} {bn : Nat → List Nat} {tl tab : Option Nat} {mc sp sz th : Int32}
abbrev newQ (G : Gh) (o hc nc nx : Nat) (tab : Option Nat) (sz mc th sp : Int32) (k v tl : Option Nat) : Option Nat → Gh → Nat → Nat → Prop := fun r G' c s => r = some nx ∧ c = 1 ∧ s ≤ 6 ∧ HNd G' nx nc sp k v none ∧ HOb G' o hc tab sz mc th (if hc = 22 then some nx else none) ∧ (∀ (a : Nat) (h' : Int32) (k' v' n' : Option Nat), a ≠ nx → HNd G a nc h' k' v' n' → HNd G' a nc h' k' v' n') ∧ ∀ b, b ≠ o → b ≠ nx → ¬ tl = some b → G' b = G b
theorem newNode_at {k v : Option Nat} (h : HOb G o hc tab sz mc th tl) (hcn : (hc = 19 ∧ nc = 20) ∨ (hc = 22 ∧ nc = 23)) (ht : ∀ t, tl = some t → t < nx ∧ t ≠ o ∧ V.1 ≤ t ∧ ∃ h' k' v' n', HNd G t nc h' k' v' n') (hb : V.1 ≤ o) (ho : o < nx) : wH (hD_J39_putVal_152 V G nx o sp k v none) (newQ G o hc nc nx tab sz mc th sp k v tl) := by
  have hbx : V.1 ≤ nx := by omega
  unfold hD_J39_putVal_152
  rcases h with ⟨rfl, e0, x0, x1, x3, lf, e⟩ | ⟨rfl, x0, x1, x3, lf, hd, e0, e⟩
  · have : nc = 20 := by rcases hcn with z | z; exact z.2; exact absurd z.1 (by decide)
    subst this
    refine w_pos (gC_at e) ?_
    unfold hF_J39_newNode hF_J40_init
    refine w_tick ?_
    apply w_cB
    refine w_xF (gset_eq _ _ _) rfl (Nat.le_of_ble_eq_true rfl) hbx rfl (w_xF (gset_eq _ _ _) rfl (Nat.le_of_ble_eq_true rfl) hbx rfl (w_xF (gset_eq _ _ _) rfl (Nat.le_of_ble_eq_true rfl) hbx rfl (w_xF (gset_eq _ _ _) rfl (Nat.le_of_ble_eq_true rfl) hbx rfl (w_ret (w_ret ?_)))))
    have kk : ∀ (e1 e2 e3 e4 e5 : va_E) (b : Nat), b ≠ nx → gset (gset (gset (gset (gset G nx e1) nx e2) nx e3) nx e4) nx e5 b = G b := fun e1 e2 e3 e4 e5 b hb => by simp only [gset_ne _ _ hb]
    refine ⟨rfl, rfl, by decide, Or.inl ⟨rfl, gset_eq _ _ _⟩, Or.inl ⟨rfl, by simp, x0, x1, x3, lf, ?_⟩, fun a h' k' v' n' ha hh => hh.keep (kk _ _ _ _ _ a ha), fun b b1 b2 b3 => kk _ _ _ _ _ b b2⟩
    rw [kk _ _ _ _ _ o (by omega)]; exact e
  · have : nc = 23 := by rcases hcn with z | z; exact absurd z.1 (by decide); exact z.2
    subst this
    refine w_neg (gC_no e (by decide)) (w_pos (gC_at e) ?_)
    unfold hF_J46_newNode hF_J41_init hF_J40_init
    refine w_tick ?_
    apply w_cB
    apply w_cB
    refine w_xF (gset_eq _ _ _) rfl (Nat.le_of_ble_eq_true rfl) hbx rfl (w_xF (gset_eq _ _ _) rfl (Nat.le_of_ble_eq_true rfl) hbx rfl (w_xF (gset_eq _ _ _) rfl (Nat.le_of_ble_eq_true rfl) hbx rfl (w_xF (gset_eq _ _ _) rfl (Nat.le_of_ble_eq_true rfl) hbx rfl (w_ret (w_ret ?_)))))
    generalize hG1 : gset (gset (gset (gset (gset G nx _) nx _) nx _) nx _) nx _ = G1
    have k1 : ∀ b, b ≠ nx → G1 b = G b := fun b hb => by rw [← hG1]; simp only [gset_ne _ _ hb]
    have e1 : G1 nx = some (.inr (23, [.int sp, va_rf k, va_rf v, va_rf none, va_rf none, va_rf none])) := by rw [← hG1, gset_eq]; rfl
    clear hG1
    have e2 : G1 o = some (.inr (22, [va_rf x0, va_rf x1, va_rf tab, va_rf x3, .int sz, .int mc, .int th, .float lf, va_rf hd, va_rf tl, .int 0, .int 0])) := by rw [k1 o (by omega)]; exact e
    refine w_pos (gC_at e2) ?_
    unfold hF_J46_linkNodeAtEnd hB_J46_linkNodeAtEnd_75
    apply w_cB
    refine w_xI e2 rfl rfl (w_neg (by decide) (w_xR e2 rfl rfl (w_xF e2 rfl (Nat.le_of_ble_eq_true rfl) hb rfl ?_)))
    cases et : tl with
    | none =>
      refine w_pos rfl (w_xF (gset_eq _ _ _) rfl (Nat.le_of_ble_eq_true rfl) hb rfl (w_ret (w_ret ?_)))
      have kk : ∀ (e1 e2 : va_E) (b : Nat), b ≠ o → gset (gset G1 o e1) o e2 b = G1 b := fun e1 e2 b hb => by simp only [gset_ne _ _ hb]
      refine ⟨rfl, rfl, by decide, Or.inr ⟨rfl, none, none, ?_⟩, Or.inr ⟨rfl, x0, x1, x3, lf, some nx, fun z => (by cases z), ?_⟩, fun a h' k' v' n' ha hh => hh.keep ?_, fun b b1 b2 b3 => ?_⟩
      · rw [kk _ _ nx (by omega)]; exact e1
      · rw [gset_eq]; rfl
      · have : a ≠ o := by
          intro z; subst z
          rcases hh with ⟨w, -⟩ | ⟨-, bf, af, w⟩
          · cases w
          · rw [e] at w; cases w
        rw [kk _ _ a this, k1 a ha]
      · rw [kk _ _ b b1, k1 b b2]
    | some t =>
      obtain ⟨t1, t2, t3, h', k', v', n', t4⟩ := ht t et
      obtain ⟨bf, af, t5⟩ : ∃ bf af, G t = some (.inr (23, [.int h', va_rf k', va_rf v', va_rf n', va_rf bf, va_rf af])) := by
        rcases t4 with ⟨w, -⟩ | ⟨-, bf, af, w⟩
        · cases w
        · exact ⟨bf, af, w⟩
      have t6 : ∀ e1 e2 : va_E, gset (gset G1 o e1) nx e2 t = some (.inr (23, [.int h', va_rf k', va_rf v', va_rf n', va_rf bf, va_rf af])) := fun e1 e2 => by rw [gset_ne _ _ (by omega), gset_ne _ _ t2, k1 t (by omega)]; exact t5
      refine w_neg (by simp) (w_some (w_xF (c := 23) (fs := [.int sp, va_rf k, va_rf v, va_rf none, va_rf none, va_rf none]) (by rw [gset_ne _ _ (by omega)]; exact e1) rfl (Nat.le_of_ble_eq_true rfl) hbx rfl (w_some (w_xF (t6 _ _) rfl (Nat.le_of_ble_eq_true rfl) t3 rfl (w_ret (w_ret ?_))))))
      have kk : ∀ (e1 e2 e3 : va_E) (b : Nat), b ≠ o → b ≠ nx → b ≠ t → gset (gset (gset G1 o e1) nx e2) t e3 b = G b := fun e1 e2 e3 b b1 b2 b3 => by rw [gset_ne _ _ b3, gset_ne _ _ b2, gset_ne _ _ b1, k1 b b2]
      refine ⟨rfl, rfl, by decide, Or.inr ⟨rfl, some t, none, ?_⟩, Or.inr ⟨rfl, x0, x1, x3, lf, hd, fun z => ?_, ?_⟩, fun a h2 k2 v2 n2 ha hh => ?_, fun b b1 b2 b3 => kk _ _ _ b b1 b2 (fun z => b3 (by rw [z]))⟩
      · rw [gset_ne _ _ (by omega), gset_eq]; rfl
      · have := e0 z; rw [et] at this; cases this
      · rw [gset_ne _ _ (Ne.symm t2), gset_ne _ _ (by omega), gset_eq]; rfl
      · have ao : a ≠ o := by
          intro z; subst z
          rcases hh with ⟨w, -⟩ | ⟨-, bf, af, w⟩
          · cases w
          · rw [e] at w; cases w
        by_cases c : a = t
        · subst c
          rcases hh with ⟨w, -⟩ | ⟨-, bf2, af2, w⟩
          · cases w
          · rw [t5] at w
            have w' := (Prod.mk.inj (Sum.inr.inj (Option.some.inj w))).2
            refine Or.inr ⟨rfl, bf2, some nx, ?_⟩
            rw [gset_eq]
            simp only [List.cons.injEq] at w'
            obtain ⟨y1, y2, y3, y4, y5, -⟩ := w'
            show some (Sum.inr (23, [Value.int h', va_rf k', va_rf v', va_rf n', va_rf bf, va_rf (some nx)])) = _
            rw [y1, y2, y3, y4, y5]
        · exact hh.keep (kk _ _ _ a ao ha c)
theorem HMr.size {cnt' : Nat} {mc' : Int32} {G' : Gh} (h : HMr V G o hc nc td n N hs kr vr nxt bn tl cnt mc) (h1 : HOb G' o hc (some td) (nI cnt') mc' (nI (n / 4 * 3)) tl) (h2 : ∀ b, b ≠ o → G' b = G b) : HMr V G' o hc nc td n N hs kr vr nxt bn tl cnt' mc' := by
  obtain ⟨g1, ⟨tb, g2, g3⟩, g4, g5, g6, g7, g8, g9, g10, g11, g12⟩ := h
  exact ⟨h1, ⟨tb, by rw [h2 td (Ne.symm g10)]; exact g2, g3⟩, fun a ha => ⟨(g4 a ha).1.keep (h2 a (g4 a ha).2.2.1), (g4 a ha).2⟩, g5, g6, g7, g8, g9, g10, g11, g12⟩
theorem after_at {G : Gh} {nx : Nat} (h : HOb G o hc tab sz mc th tl) : hB_J39_putVal_292 V o G nx 1 = some (none, G, 0, 0) := by
  have hw : wH (hB_J39_putVal_292 V o G nx 1) (fun r G' c s => r = none ∧ G' = G ∧ c = 0 ∧ s = 0) := by
    unfold hB_J39_putVal_292 hD_J39_putVal_295
    rcases h with ⟨rfl, e0, x0, x1, x3, lf, e⟩ | ⟨rfl, x0, x1, x3, lf, hd, e0, e⟩
    · refine w_call0 (r := ()) (G := G) (by rw [if_pos (gC_at e)]; rfl) (w_ret ⟨rfl, rfl, rfl, rfl⟩)
    · apply w_cB
      refine w_neg (gC_no e (by decide)) (w_pos (gC_at e) ?_)
      unfold hF_J46_afterNodeInsertion hB_J46_afterNodeInsertion_39
      refine w_neg (by decide) (w_xR e rfl rfl ?_)
      cases hd with
      | none => exact w_pos rfl (w_ret (w_ret ⟨rfl, rfl, rfl, rfl⟩))
      | some t => exact w_neg (by simp) (w_pos (gC_at e) (w_call0 (r := (0 : Int32)) (G := G) rfl (w_pos rfl (w_ret (w_ret ⟨rfl, rfl, rfl, rfl⟩)))))
  obtain ⟨r, G', c, s, e, rfl, rfl, rfl, rfl⟩ := hw
  exact e
theorem put_259 (hV : 400 ≤ V.2.2.2.2) (h : HMr V G o hc nc td n N hs kr vr nxt bn tl cnt mc) (hcnt : cnt + 1 ≤ 96) (hlen : ∀ i, i < n → (bn i).length ≤ 100) (hold : o < nx ∧ td < nx ∧ ∀ a, N a → a < nx) :
    wH (hB_J39_putVal_259 V o G nx 1) (fun r G' c s => r = none ∧ c ≤ 1 ∧ s ≤ 128 ∧ (∃ td' n' nxt' bn', HMr V G' o hc nc td' n' N hs kr vr nxt' bn' tl (cnt + 1) (mc + 1) ∧ ((td' = td ∧ n' = n) ∨ (td' = nx ∧ c = 1)) ∧ n ≤ n') ∧ ∀ b, ¬ N b → b ≠ o → b ≠ td → b < nx → G' b = G b) := by
  have h0 := h
  obtain ⟨g1, ⟨tb, g2, g3⟩, g4, g5, g6, g7, g8, g9, g10, g11, g12⟩ := h0
  have hn : n ≤ 128 ∧ 16 ≤ n := by rcases g7 with rfl | rfl | rfl | rfl <;> decide
  unfold hB_J39_putVal_259
  refine w_hM g1 (w_hsM g1 g8 ?_)
  intro G1 t1 t2
  refine w_hS t1 (w_hsS t1 g8 ?_)
  intro G2 u1 u2
  rw [nI_1] at u1
  rw [nI_1]
  have h2 := h.size u1 (fun b hb => by rw [u2 b hb, t2 b hb])
  refine w_hH u1 ?_
  by_cases c : cnt + 1 ≤ n / 4 * 3
  · refine w_pos (nI_le c (by omega)) ⟨_, _, _, _, after_at u1, rfl, by omega, by omega, ⟨td, n, nxt, bn, h2, Or.inl ⟨rfl, rfl⟩, Nat.le_refl _⟩, fun b b1 b2 b3 b4 => by rw [u2 b b2, t2 b b2]⟩
  · refine w_neg (nI_ge (by omega) (by omega)) (w_pos u1.cls ?_)
    have hn3 : n = 16 ∨ n = 32 ∨ n = 64 := by
      rcases g7 with z | z | z | z
      · exact Or.inl z
      · exact Or.inr (Or.inl z)
      · exact Or.inr (Or.inr z)
      · subst z; omega
    refine w_call (resize_at hV h2 hn3 hlen hold) ?_
    rintro r G3 c3 s3 ⟨rfl, rfl, rfl, ⟨nxt', v1⟩, v2⟩
    refine ⟨_, _, _, _, after_at v1.1, rfl, by omega, ?_, ⟨nx, 2 * n, nxt', _, v1, Or.inr ⟨rfl, by omega⟩, by omega⟩, fun b b1 b2 b3 b4 => by rw [v2 b b1 b2 b3 b4, u2 b b2, t2 b b2]⟩
    rcases hn3 with rfl | rfl | rfl <;> decide
theorem Chn.end_ {f g : Nat → Option Nat} {e : Nat} : ∀ {L : List Nat} {z : Nat} {h : Option Nat}, Chn f h (L ++ [z]) → (∀ a ∈ L, g a = f a) → g z = some e → g e = none → Chn g h (L ++ [z] ++ [e])
  | [], z, h, c, e1, e2, e3 => ⟨c.1, e2, e3⟩
  | a :: L, z, h, c, e1, e2, e3 => ⟨c.1, by rw [e1 a (by simp)]; exact Chn.end_ (L := L) c.2 (fun b hb => e1 b (by simp [hb])) e2 e3⟩
/-- a node is hung behind the last one of its bin -/
theorem put_link {G1 : Gh} {i : Nat} {v : Option Nat} {tb : Nat → Option Nat} (h : HMr V G o hc nc td n N hs kr vr nxt bn tl cnt mc) (hi : i = ix n sp) (hold : o < nx ∧ td < nx ∧ ∀ a, N a → a < nx)
    (t1 : HNd G1 nx nc sp (some ik) v none) (t2 : HOb G1 o hc (some td) (nI cnt) mc (nI (n / 4 * 3)) (if hc = 22 then some nx else none)) (t4 : G1 td = some (.inl (V.2.1 4, n, .inr (.inr (.inr (.inr tb)))))) (nxt' : Nat → Option Nat) (t3 : ∀ a, N a → HNd G1 a nc (hs a) (kr a) (vr a) (nxt' a)) (hn0 : nxt' nx = none) (hbn : ∀ j, j < n → j ≠ i → Chn nxt' (tb j) (bn j)) (hbi : Chn nxt' (tb i) (bn i ++ [nx])) :
    HMr V G1 o hc nc td n (inN N nx) (va_up hs nx sp) (va_up kr nx (some ik)) (va_up vr nx v) nxt' (va_up bn i (bn i ++ [nx])) (if hc = 22 then some nx else none) cnt mc := by
  obtain ⟨g1, -, g4, g5, g6, g7, g8, g9, g10, g11, g12⟩ := h
  have hix := ix_lt g7 sp
  have nN : ¬ N nx := fun w => Nat.lt_irrefl _ (hold.2.2 nx w)
  refine ⟨t2, ⟨tb, t4, fun j hj => ?_⟩, fun a ha => ?_, fun j hj a => ?_, fun j hj => ?_, g7, g8, g9, g10, fun t ht => ?_, g12⟩
  · by_cases c : j = i
    · subst c; rw [up_eq]; exact hbi
    · rw [up_ne _ _ c]; exact hbn j hj c
  · by_cases c : a = nx
    · subst c; simp only [up_eq]; rw [hn0]; exact ⟨t1, by omega, by omega, by omega⟩
    · simp only [up_ne _ _ c]
      have ha' : N a := by rcases ha with ha | ha; exact ha; exact absurd ha c
      exact ⟨t3 a ha', (g4 a ha').2⟩
  · by_cases c : a = nx
    · subst c
      rw [up_eq]
      by_cases cj : j = i
      · subst cj; rw [up_eq]; simp [inN, hi]
      · rw [up_ne _ _ cj, g5 j hj]
        constructor
        · rintro ⟨w, -⟩; exact absurd w nN
        · rintro ⟨-, w⟩; exact absurd (w.symm.trans hi.symm) cj
    · rw [up_ne _ _ c]
      have hb : inN N nx a ↔ N a := ⟨fun w => by rcases w with w | w; exact w; exact absurd w c, Or.inl⟩
      rw [hb]
      by_cases cj : j = i
      · subst cj; rw [up_eq, List.mem_append, g5 j hj]; simp [c]
      · rw [up_ne _ _ cj]; exact g5 j hj a
  · by_cases cj : j = i
    · subst cj
      rw [up_eq, List.nodup_append]
      refine ⟨g6 j hj, by simp, ?_⟩
      intro a ha b hb e
      simp at hb
      subst hb; subst e
      exact nN ((g5 j hj a).mp ha).1
    · rw [up_ne _ _ cj]; exact g6 j hj
  · rcases g12 with ⟨rfl, rfl⟩ | ⟨rfl, rfl⟩
    · simp at ht
    · simp at ht; exact Or.inr ht.symm
end H

/-! PURE 30: HashMap.TreeNode.find -/
theorem Str.inj {V : HEn} {G : Gh} {o d d' : Nat} {l l' : List Nat} {st st' : Prop} (h : Str V G o d l st) (k : Str V G o d' l' st') : l = l' := by
  obtain ⟨f, x, z, h1, h2, h3, h4, h5, h6, h7⟩ := h
  obtain ⟨f', x', z', k1, k2, k3, k4, k5, k6, k7⟩ := k
  rw [h1] at k1
  cases k1
  rw [h2] at k2
  have e1 := congrArg (fun x => match x with | some (.inl (_, n, .inl g)) => (n, g) | _ => (0, fun _ => (0 : Int32))) k2
  simp only [Prod.mk.injEq] at e1
  refine List.ext_getElem e1.1 (fun i q1 q2 => bt_inj (h4 _ (List.getElem_mem q1)) (k4 _ (List.getElem_mem q2)) ?_)
  rw [← h3 i q1, ← k3 i q2, e1.2]
/-- the order of a bin: by hash, then by text -/
def kLt (s t : List Nat) : Prop := spr (hsh s) < spr (hsh t) ∨ (spr (hsh s) = spr (hsh t) ∧ sLt s t)
theorem kLt_irrefl (s : List Nat) : ¬ kLt s s := by
  rintro (h | h)
  · exact Int32.lt_irrefl h
  · exact sLt_irrefl _ h.2
theorem kLt_trans {s t u : List Nat} (h1 : kLt s t) (h2 : kLt t u) : kLt s u := by
  rcases h1 with h1 | ⟨h1, h1'⟩ <;> rcases h2 with h2 | ⟨h2, h2'⟩
  · exact Or.inl (Int32.lt_trans h1 h2)
  · exact Or.inl (h2 ▸ h1)
  · exact Or.inl (h1 ▸ h2)
  · exact Or.inr ⟨h1.trans h2, sLt_trans h1' h2'⟩
theorem kLt_total (s t : List Nat) : s = t ∨ kLt s t ∨ kLt t s := by
  rcases sLt_total s t with e | e
  · exact Or.inl e
  · by_cases c : spr (hsh s) < spr (hsh t)
    · exact Or.inr (Or.inl (Or.inl c))
    · by_cases c2 : spr (hsh s) = spr (hsh t)
      · rcases e with e | e
        · exact Or.inr (Or.inl (Or.inr ⟨c2, e⟩))
        · exact Or.inr (Or.inr (Or.inr ⟨c2.symm, e⟩))
      · exact Or.inr (Or.inr (Or.inl (Int32.lt_of_le_of_ne (Int32.not_lt.mp c) (Ne.symm c2))))
/-- the keys of nodes -/
def TK (V : HEn) (G : Gh) (N : Nat → Prop) (D : Nat → Int32 × Option Nat × Option Nat) (ko kd : Nat → Nat) (ks : Nat → List Nat) : Prop := ∀ a, N a → (D a).2.1 = some (ko a) ∧ Str V G (ko a) (kd a) (ks a) True ∧ (D a).1 = spr (hsh (ks a))
section U
variable {V : HEn} {G : Gh} {o n nx ik id : Nat} {s : List Nat} {N : Nat → Prop} {D : Nat → Int32 × Option Nat × Option Nat} {nxt pv lf rt pa : Nat → Option Nat} {rd : Nat → Int32} {ko kd : Nat → Nat} {ks : Nat → List Nat} {ps lo hi : Nat → Nat} {root : Option Nat} {st : Prop}
theorem ccf_at (hk : Str V G ik id s st) : hF_J39_comparableClassFor V G nx (some ik) = some (some (V.2.2.2.1 21), G, 0, 0) := by
  have h0 := hk
  obtain ⟨f, x, z, h1, -⟩ := hk
  unfold hF_J39_comparableClassFor
  have e : gin G (some ik) [26, 25] [] = some 1 := by
    show (if [26, 25].any (gC G ik) = true then some (1 : Int32) else _) = _
    rw [if_pos (List.any_eq_true.mpr ⟨25, by simp, gC_at h1⟩)]
  simp only [e, Option.bind_some, h0.gC, if_true]
  rw [if_neg (by decide)]
theorem ccm_at {ik' id' : Nat} {s' : List Nat} {st' : Prop} (hV : 1200 ≤ V.2.2.2.2) (hk : Str V G ik id s st) (hk' : Str V G ik' id' s' st') : ∃ r, hF_J39_compareComparables V G nx (some (V.2.2.2.1 21)) (some ik) (some ik') = some (r, G, 0, 0) ∧ CmpOk s s' r := by
  obtain ⟨r, e, q⟩ := str_compare (nx := nx) hV hk hk'
  have h0 := hk
  obtain ⟨f, x, z, h1, -⟩ := hk
  have hw : wH (hF_J39_compareComparables V G nx (some (V.2.2.2.1 21)) (some ik) (some ik')) (fun r' G' c s => r' = r ∧ G' = G ∧ c = 0 ∧ s = 0) := by
    unfold hF_J39_compareComparables hB_J39_compareComparables_26
    exact w_neg (by simp) (w_some (w_pos hk'.gC (w_pos rfl (w_pos (gok_at h1 (by simp)) (w_some (w_pos h0.gC (w_call0 e (w_ret ⟨rfl, rfl, rfl, rfl⟩))))))))
  obtain ⟨r', G', c, s, e, rfl, rfl, rfl, rfl⟩ := hw
  exact ⟨_, e, q⟩
theorem find_loop (hV : 1200 ≤ V.2.2.2.2) (h : UNd V G N D nxt pv lf rt pa rd) (hs : Shp N n root lf rt pa ps lo hi) (ht : TK V G N D ko kd ks) (hS : ∀ a b, N a → N b → ps a < ps b → kLt (ks a) (ks b)) (hk : Str V G ik id s st) :
    ∀ (k m p nx : Nat) (l3 : Option Nat), N p → hi p - lo p ≤ k → k + 1 ≤ m → (l3 = none ∨ l3 = some (V.2.2.2.1 21)) → wH (hL_J42_find_3 V o m G nx (spr (hsh s)) (some ik) l3 (some p)) (fun r G' c s' => G' = G ∧ c = 0 ∧ s' = 0 ∧ ((∃ t, r = some t ∧ N t ∧ ks t = s) ∨ (r = none ∧ ∀ t, N t → lo p ≤ ps t → ps t < hi p → ks t ≠ s))) := by
  obtain ⟨h1, h2, h3, h4, h5, h6, h7, h8, h9, h10, h11⟩ := hs
  intro k
  induction k with
  | zero =>
    intro m p nx l3 hp hk0
    have := h1 p hp
    omega
  | succ k ih =>
    intro m p nx l3 hp hk0 hm hl3
    obtain ⟨m, rfl⟩ := Nat.exists_eq_succ_of_ne_zero (show m ≠ 0 by omega)
    obtain ⟨t1, t2, t3⟩ := ht p hp
    have b0 := h1 p hp
    -- to the left, to the right
    have goL : (∀ t, N t → ks t = s → lo p ≤ ps t → ps t < hi p → ps t < ps p) → ∀ (l3 : Option Nat) (nx : Nat), (l3 = none ∨ l3 = some (V.2.2.2.1 21)) → wH (hB_J42_find_165 V o (hL_J42_find_3 V o m) G nx (spr (hsh s)) (some ik) l3 (lf p)) (fun r G' c s' => G' = G ∧ c = 0 ∧ s' = 0 ∧ ((∃ t, r = some t ∧ N t ∧ ks t = s) ∨ (r = none ∧ ∀ t, N t → lo p ≤ ps t → ps t < hi p → ks t ≠ s))) := by
      intro hh l3 nx hl3
      unfold hB_J42_find_165
      cases e : lf p with
      | none =>
        refine w_pos rfl (w_ret ⟨rfl, rfl, rfl, Or.inr ⟨rfl, fun t a1 a2 a3 a4 => ?_⟩⟩)
        have := hh t a1 a4 a2 a3
        have := h6 p hp e
        omega
      | some q =>
        obtain ⟨q1, q2, q3, q4⟩ := h7 p q hp e
        refine w_neg (by simp) (w_mono (ih m q nx l3 q1 (by omega) (by omega) hl3) ?_)
        rintro r G' c s' ⟨r1, r2, r3, r4⟩
        refine ⟨r1, r2, r3, ?_⟩
        rcases r4 with r4 | ⟨r4, r5⟩
        · exact Or.inl r4
        · exact Or.inr ⟨r4, fun t a1 a2 a3 a4 => r5 t a1 (by omega) (by have := hh t a1 a4 a2 a3; omega) a4⟩
    have goR : (∀ t, N t → ks t = s → lo p ≤ ps t → ps t < hi p → ps p < ps t) → ∀ (l3 : Option Nat) (nx : Nat), (l3 = none ∨ l3 = some (V.2.2.2.1 21)) → wH (hB_J42_find_165 V o (hL_J42_find_3 V o m) G nx (spr (hsh s)) (some ik) l3 (rt p)) (fun r G' c s' => G' = G ∧ c = 0 ∧ s' = 0 ∧ ((∃ t, r = some t ∧ N t ∧ ks t = s) ∨ (r = none ∧ ∀ t, N t → lo p ≤ ps t → ps t < hi p → ks t ≠ s))) := by
      intro hh l3 nx hl3
      unfold hB_J42_find_165
      cases e : rt p with
      | none =>
        refine w_pos rfl (w_ret ⟨rfl, rfl, rfl, Or.inr ⟨rfl, fun t a1 a2 a3 a4 => ?_⟩⟩)
        have := hh t a1 a4 a2 a3
        have := h8 p hp e
        omega
      | some q =>
        obtain ⟨q1, q2, q3, q4⟩ := h9 p q hp e
        refine w_neg (by simp) (w_mono (ih m q nx l3 q1 (by omega) (by omega) hl3) ?_)
        rintro r G' c s' ⟨r1, r2, r3, r4⟩
        refine ⟨r1, r2, r3, ?_⟩
        rcases r4 with r4 | ⟨r4, r5⟩
        · exact Or.inl r4
        · exact Or.inr ⟨r4, fun t a1 a2 a3 a4 => r5 t a1 (by have := hh t a1 a4 a2 a3; omega) (by omega) a4⟩
    -- where a node of that text lies
    have side : ∀ t, N t → ks t = s → (kLt s (ks p) → ps t < ps p) ∧ (kLt (ks p) s → ps p < ps t) := by
      intro t a1 a2
      refine ⟨fun q => ?_, fun q => ?_⟩
      · rcases Nat.lt_trichotomy (ps t) (ps p) with c | c | c
        · exact c
        · have := h2 t p a1 hp c; subst this; rw [a2] at q; exact absurd q (kLt_irrefl _)
        · have := hS p t hp a1 c; rw [a2] at this; exact absurd (kLt_trans this q) (kLt_irrefl _)
      · rcases Nat.lt_trichotomy (ps t) (ps p) with c | c | c
        · have := hS t p a1 hp c; rw [a2] at this; exact absurd (kLt_trans this q) (kLt_irrefl _)
        · have := h2 t p a1 hp c; subst this; rw [a2] at q; exact absurd q (kLt_irrefl _)
        · exact c
    rw [hL_J42_find_3]
    refine w_some (w_uL h hp (w_uR h hp (w_uH h hp ?_)))
    rw [t3]
    refine w_if (fun c1 => w_if (fun c2 => w_uK h hp ?_) (fun c2 => ?_)) (fun c1 => ?_)
    · have eh : spr (hsh s) = spr (hsh (ks p)) := Int32.le_antisymm c2 c1
      rw [t1]
      unfold hB_J42_find_74
      refine w_if (fun c => ?_) (fun c => w_neg (by simp) (w_some (w_pos hk.gC ?_)))
      · have := Option.some.inj c
        rw [this] at t2
        exact w_ret ⟨rfl, rfl, rfl, Or.inl ⟨p, rfl, hp, t2.inj hk⟩⟩
      · refine w_call0 (str_equals hV hk t2) (w_if (fun c3 => ?_) (fun c3 => ?_))
        · have ne : ¬ s = ks p := fun z => by rw [if_pos z] at c3; exact absurd c3 (by decide)
          have nt : ∀ t, N t → ks t = s → ps t ≠ ps p := fun t a1 a2 a3 => by
            have := h2 t p a1 hp a3
            subst this
            exact ne a2.symm
          unfold hB_J42_find_77
          refine w_if (fun c4 => ?_) (fun c4 => w_if (fun c5 => ?_) (fun c5 => ?_))
          · exact goR (fun t a1 a2 a3 a4 => by have := nt t a1 a2; have := h6 p hp c4; omega) l3 _ hl3
          · exact goL (fun t a1 a2 a3 a4 => by have := nt t a1 a2; have := h8 p hp c5; omega) l3 _ hl3
          · have fin : ∀ nx, wH (hB_J42_find_114 V o (hL_J42_find_3 V o m) G nx (spr (hsh s)) (some ik) (some (V.2.2.2.1 21)) (some (ko p)) (lf p) (rt p)) (fun r G' c s' => G' = G ∧ c = 0 ∧ s' = 0 ∧ ((∃ t, r = some t ∧ N t ∧ ks t = s) ∨ (r = none ∧ ∀ t, N t → lo p ≤ ps t → ps t < hi p → ks t ≠ s))) := by
              intro nx
              unfold hB_J42_find_114 hB_J42_find_139
              obtain ⟨r, e, q1, q2, q3⟩ := ccm_at (nx := nx) hV hk t2
              refine w_call0 e ?_
              rcases sLt_total s (ks p) with z | z | z
              · exact absurd z ne
              · have := q2 z
                refine w_neg (fun w => by rw [w] at this; exact absurd this (by decide)) (w_neg (fun w => Int32.lt_irrefl (Int32.lt_of_le_of_lt w this)) ?_)
                exact goL (fun t a1 a2 _ _ => (side t a1 a2).1 (Or.inr ⟨eh, z⟩)) _ _ (Or.inr rfl)
              · have := q3 z
                refine w_neg (fun w => by rw [w] at this; exact absurd this (by decide)) (w_pos (Int32.le_of_lt this) ?_)
                exact goR (fun t a1 a2 _ _ => (side t a1 a2).2 (Or.inr ⟨eh.symm, z⟩)) _ _ (Or.inr rfl)
            rcases hl3 with rfl | rfl
            · exact w_pos rfl (w_call0 (ccf_at hk) (w_neg (by simp) (fin _)))
            · exact w_neg (by simp) (fin _)
        · have eq : s = ks p := by
            by_cases z : s = ks p
            · exact z
            · rw [if_neg z] at c3; exact absurd rfl c3
          exact w_ret ⟨rfl, rfl, rfl, Or.inl ⟨p, rfl, hp, eq.symm⟩⟩
    · exact goR (fun t a1 a2 _ _ => (side t a1 a2).2 (Or.inl (Int32.not_le.mp c2))) l3 _ hl3
    · exact goL (fun t a1 a2 _ _ => (side t a1 a2).1 (Or.inl (Int32.not_le.mp c1))) l3 _ hl3
/-- what stands in a tree bin is found, from its root on -/
theorem getTree_at {r0 : Nat} (hV : 1200 ≤ V.2.2.2.2) (hn : n ≤ 300) (h : UNd V G N D nxt pv lf rt pa rd) (hs : Shp N n (some r0) lf rt pa ps lo hi) (ht : TK V G N D ko kd ks) (hS : ∀ a b, N a → N b → ps a < ps b → kLt (ks a) (ks b)) (hk : Str V G ik id s st) :
    ∃ r, hF_J42_getTreeNode V G nx r0 (spr (hsh s)) (some ik) = some (r, G, 0, 0) ∧ ((∃ t, r = some t ∧ N t ∧ ks t = s) ∨ (r = none ∧ ∀ t, N t → ks t ≠ s)) := by
  obtain ⟨q1, q2, q3, q4⟩ := hs.2.2.2.1 r0 rfl
  have hw : wH (hF_J42_getTreeNode V G nx r0 (spr (hsh s)) (some ik)) (fun r G' c s' => G' = G ∧ c = 0 ∧ s' = 0 ∧ ((∃ t, r = some t ∧ N t ∧ ks t = s) ∨ (r = none ∧ ∀ t, N t → ks t ≠ s))) := by
    unfold hF_J42_getTreeNode hB_J42_getTreeNode_15 hF_J42_find
    refine w_uP h q1 ?_
    rw [q4]
    refine w_pos rfl (w_some (w_pos (gC_at (h r0 q1).1) ?_))
    refine w_call (find_loop hV h hs ht hS hk n V.2.2.2.2 r0 nx none q1 (by omega) (by omega) (Or.inl rfl)) ?_
    rintro r G' c s' ⟨rfl, rfl, rfl, e⟩
    refine w_ret ⟨rfl, rfl, rfl, ?_⟩
    rcases e with e | ⟨e1, e2⟩
    · exact Or.inl e
    · exact Or.inr ⟨e1, fun t a1 => e2 t a1 (by omega) (by have := hs.1 t a1; omega)⟩
  obtain ⟨r, G', c, s', e, rfl, rfl, rfl, q⟩ := hw
  exact ⟨r, e, q⟩
end U

/-! PURE 21: HashMap.put of a key that isn't there, whole -/
section H
variable {V : HEn} {G : Gh} {o hc nc td n nx ik cnt : Nat} {N P : Nat → Prop} {hs : Nat → Int32} {kr vr nxt : Nat → Option Nat} {bn : Nat → List Nat} {tl tab : Option Nat} {mc sp sz th : Int32}
/-- what a put of a new key ends with -/
abbrev PutQ (V : HEn) (G : Gh) (o hc nc td nx : Nat) (N : Nat → Prop) (hs : Nat → Int32) (kr vr : Nat → Option Nat) (ik : Nat) (sp : Int32) (v : Option Nat) (cnt : Nat) (mc : Int32) : Option Nat → Gh → Nat → Nat → Prop := fun r G' c s => r = none ∧ c ≤ 2 ∧ s ≤ 134 ∧ (∃ td' n' nxt' bn' tl', HMr V G' o hc nc td' n' (inN N nx) (va_up hs nx sp) (va_up kr nx (some ik)) (va_up vr nx v) nxt' bn' tl' (cnt + 1) (mc + 1) ∧ (td' = td ∨ (nx ≤ td' ∧ td' < nx + c))) ∧ nx < nx + c ∧ ∀ b, ¬ N b → b ≠ o → b ≠ td → b < nx → G' b = G b
theorem put_go {G1 : Gh} {nxt' : Nat → Option Nat} {bn' : Nat → List Nat} {v : Option Nat} {s1 : Nat} (hV : 400 ≤ V.2.2.2.2) (h : HMr V G1 o hc nc td n (inN N nx) (va_up hs nx sp) (va_up kr nx (some ik)) (va_up vr nx v) nxt' bn' tl cnt mc) (hcnt : cnt + 1 ≤ 96) (hlen : ∀ i, i < n → (bn' i).length ≤ 100) (hold : o < nx ∧ td < nx ∧ ∀ a, N a → a < nx) (hf : ∀ b, ¬ N b → b ≠ o → b ≠ td → b < nx → G1 b = G b) (hs1 : s1 ≤ 6) :
    wH (hB_J39_putVal_259 V o G1 (nx + 1) 1) (fun r G' c s => PutQ V G o hc nc td nx N hs kr vr ik sp v cnt mc r G' (1 + c) (s1 + s)) := by
  refine w_mono (put_259 (nx := nx + 1) hV h hcnt hlen ⟨by omega, by omega, fun a ha => by rcases ha with ha | ha; have := hold.2.2 a ha; omega; omega⟩) ?_
  rintro r G' c s ⟨q1, q2, q3, ⟨td', n', nxt2, bn2, q4, q5, -⟩, q6⟩
  refine ⟨q1, by omega, by omega, ⟨td', n', nxt2, bn2, tl, q4, ?_⟩, by omega, fun b b1 b2 b3 b4 => ?_⟩
  · rcases q5 with ⟨w, -⟩ | ⟨w, w2⟩
    · exact Or.inl w
    · exact Or.inr (by omega)
  · rw [q6 b (by rintro (w | w); exact b1 w; omega) b2 b3 (by omega)]; exact hf b b1 b2 b3 b4
theorem put_loop134 {v : Option Nat} {i : Nat} {tb : Nat → Option Nat} (hV : 400 ≤ V.2.2.2.2) (h : HMr V G o hc nc td n N hs kr vr nxt bn tl cnt mc) (htb : G td = some (.inl (V.2.1 4, n, .inr (.inr (.inr (.inr tb)))))) (hch : ∀ j, j < n → Chn nxt (tb j) (bn j)) (hcnt : cnt + 1 ≤ 96) (hlen : ∀ i, i < n → (bn i).length ≤ 7) (hold : o < nx ∧ td < nx ∧ ∀ a, N a → a < nx) (hi : i = ix n sp) (hq : KeyQ V G ik sp N hs kr P) (hab : ∀ a, N a → ¬ P a) :
    ∀ (t : List Nat) (b : Nat) (Pf : List Nat) (m nx' : Nat), bn i = Pf ++ b :: t → t.length + 1 ≤ m → nx' = nx →
    wH (hL_J39_putVal_134 V o m G nx' sp (some ik) v 0 1 (some td) (some b) (nI Pf.length)) (PutQ V G o hc nc td nx N hs kr vr ik sp v cnt mc) := by
  have h0 := h
  obtain ⟨g1, -, g4, g5, g6, g7, g8, g9, g10, g11, g12⟩ := h0
  have hix : i < n := by rw [hi]; exact ix_lt g7 sp
  have hlt := hlen i hix
  have nN : ¬ N nx := fun w => Nat.lt_irrefl _ (hold.2.2 nx w)
  intro t
  induction t with
  | nil =>
    intro b Pf m nx' hb hm hnx
    subst hnx
    obtain ⟨m, rfl⟩ := Nat.exists_eq_succ_of_ne_zero (show m ≠ 0 by omega)
    have bN : N b := ((g5 i hix b).mp (by rw [hb]; simp)).1
    have hc0 := hch i hix
    rw [hb] at hc0 hlt
    simp at hlt
    have bnone : nxt b = none := by
      clear hlt hb
      revert hc0
      generalize tb i = r
      intro hc0
      induction Pf generalizing r with
      | nil => exact hc0.2
      | cons a Pf ihp => exact ihp _ hc0.2
    rw [hL_J39_putVal_134]
    refine w_some (w_nN (g4 b bN).1 ?_)
    rw [bnone]
    refine w_pos rfl (w_call (newNode_at (sp := sp) (k := some ik) (v := v) g1 g12 (fun t ht => ⟨hold.2.2 t (g11 t ht), (g4 t (g11 t ht)).2.2.1, (g4 t (g11 t ht)).2.1, _, _, _, _, (g4 t (g11 t ht)).1⟩) g8 hold.1) ?_)
    rintro r G1 c s ⟨rfl, rfl, s6, t1, t2, t3, t4⟩
    have bx : b ≠ nx' := by have := hold.2.2 b bN; omega
    refine w_nsN (t3 b _ _ _ _ bx (g4 b bN).1) (g4 b bN).2.1 ?_
    intro G2 u1 u2
    refine w_pos (nI_lt (b := 7) (by omega) (by decide)) ?_
    unfold hB_J39_putVal_222
    refine w_pos rfl ?_
    have k2 : ∀ b', ¬ N b' → b' ≠ o → b' ≠ nx' → G2 b' = G b' := fun b' b1 b2 b3 => by
      rw [u2 b' (fun w => b1 (w ▸ bN)), t4 b' b2 b3 (fun w => b1 (g11 b' w))]
    have hl := put_link (sp := sp) (ik := ik) (i := i) (v := v) (tb := tb) (G1 := G2) h hi hold (t1.keep (u2 nx' (Ne.symm bx))) (t2.keep (u2 o (Ne.symm (g4 b bN).2.2.1))) (by rw [k2 td (fun w => (g4 td w).2.2.2 rfl) (Ne.symm g10) (by omega)]; exact htb) (va_up (va_up nxt nx' none) b (some nx')) (fun a ha => ?_) (by rw [up_ne _ _ (Ne.symm bx), up_eq]) (fun j hj hji => ?_) ?_
    · refine put_go hV hl hcnt (fun j hj => ?_) hold (fun b' b1 b2 b3 b4 => k2 b' b1 b2 (by omega)) s6
      by_cases cj : j = i
      · subst cj; rw [up_eq, hb]; simp; omega
      · rw [up_ne _ _ cj]; have := hlen j hj; omega
    · by_cases ca : a = b
      · subst ca; rw [up_eq]; exact u1
      · rw [up_ne _ _ ca, up_ne _ _ (show a ≠ nx' by have := hold.2.2 a ha; omega)]
        exact (t3 a _ _ _ _ (by have := hold.2.2 a ha; omega) (g4 a ha).1).keep (u2 a ca)
    · refine (hch j hj).congr (fun a ha => ?_)
      have aN := (g5 j hj a).mp ha
      rw [up_ne _ _ (show a ≠ b by
        intro w; subst w
        exact hji (aN.2.symm.trans ((g5 i hix a).mp (by rw [hb]; simp)).2)), up_ne _ _ (show a ≠ nx' by have := hold.2.2 a aN.1; omega)]
    · rw [hb]
      refine Chn.end_ (f := nxt) hc0 (fun a ha => ?_) (up_eq _ _ _) (by rw [up_ne _ _ (Ne.symm bx), up_eq])
      have nd := g6 i hix
      rw [hb, List.nodup_append] at nd
      have ab : a ≠ b := fun w => nd.2.2 a ha b (by simp) w
      have aN := ((g5 i hix a).mp (by rw [hb]; simp [ha])).1
      rw [up_ne _ _ ab, up_ne _ _ (show a ≠ nx' by have := hold.2.2 a aN; omega)]
  | cons d t ih =>
    intro b Pf m nx' hb hm hnx
    subst hnx
    obtain ⟨m, rfl⟩ := Nat.exists_eq_succ_of_ne_zero (show m ≠ 0 by omega)
    have bN : N b := ((g5 i hix b).mp (by rw [hb]; simp)).1
    have dN : N d := ((g5 i hix d).mp (by rw [hb]; simp)).1
    have hc0 := hch i hix
    rw [hb] at hc0
    have bnext : nxt b = some d := by
      clear hb
      revert hc0
      generalize tb i = r
      intro hc0
      induction Pf generalizing r with
      | nil => exact hc0.2.1
      | cons a Pf ihp => exact ihp _ hc0.2
    rw [hL_J39_putVal_134]
    refine w_some (w_nN (g4 b bN).1 ?_)
    rw [bnext]
    obtain ⟨q1, q2, q3⟩ := hq d dN
    have next : wH (hB_J39_putVal_212 V o (hL_J39_putVal_134 V o m) G nx' sp (some ik) v 0 1 (some td) (some d) (nI Pf.length)) (PutQ V G o hc nc td nx' N hs kr vr ik sp v cnt mc) := by
      unfold hB_J39_putVal_212
      rw [nI_1]
      have := ih d (Pf ++ [b]) m nx' (by rw [hb]; simp) (by simp at hm; omega) rfl
      rwa [List.length_append] at this
    refine w_neg (by simp) (w_some (w_nH (g4 d dN).1 (w_if (fun c1 => w_nK (g4 d dN).1 (w_if (fun c2 => absurd (q2 c2) (hab d dN)) (fun c2 => w_neg (by simp) (w_some ?_)))) (fun c1 => next))))
    rcases q3 c1 c2 nx' with ⟨z1, z2⟩ | ⟨z1, z2⟩
    · exact absurd z1 (hab d dN)
    · exact w_call0 z2 (w_pos rfl next)
theorem put_29 {v : Option Nat} (hV : 400 ≤ V.2.2.2.2) (h : HMr V G o hc nc td n N hs kr vr nxt bn tl cnt mc) (hcnt : cnt + 1 ≤ 96) (hlen : ∀ i, i < n → (bn i).length ≤ 7) (hold : o < nx ∧ td < nx ∧ ∀ a, N a → a < nx) (hq : KeyQ V G ik sp N hs kr P) (hab : ∀ a, N a → ¬ P a) :
    wH (hB_J39_putVal_29 V o G nx sp (some ik) v 0 1 (some td) (nI n)) (PutQ V G o hc nc td nx N hs kr vr ik sp v cnt mc) := by
  have h0 := h
  obtain ⟨g1, ⟨tb, g2, g3⟩, g4, g5, g6, g7, g8, g9, g10, g11, g12⟩ := h0
  have hn : n ≤ 128 ∧ 16 ≤ n := by rcases g7 with rfl | rfl | rfl | rfl <;> decide
  have hix := ix_lt g7 sp
  unfold hB_J39_putVal_29
  refine w_some ?_
  rw [ix_eq g7]
  refine w_rdR g2 (gd_nI hix (by omega)) ?_
  have hc0 := g3 _ hix
  cases eb : bn (ix n sp) with
  | nil =>
    rw [eb] at hc0
    have hc0 : tb (ix n sp) = none := hc0
    rw [hc0]
    refine w_pos rfl (w_call (newNode_at (sp := sp) (k := some ik) (v := v) g1 g12 (fun t ht => ⟨hold.2.2 t (g11 t ht), (g4 t (g11 t ht)).2.2.1, (g4 t (g11 t ht)).2.1, _, _, _, _, (g4 t (g11 t ht)).1⟩) g8 hold.1) ?_)
    rintro r G1 c s ⟨rfl, rfl, s6, t1, t2, t3, t4⟩
    have nNt : ¬ N td := fun w => (g4 td w).2.2.2 rfl
    have e1 : G1 td = some (.inl (V.2.1 4, n, .inr (.inr (.inr (.inr tb))))) := by rw [t4 td (Ne.symm g10) (by omega) (fun w => nNt (g11 td w))]; exact g2
    refine w_pos (t1.gok _) (w_wrR e1 g9 (gd_nI hix (by omega)) ?_)
    have nx0 : ∀ a, N a → a ≠ nx := fun a ha => by have := hold.2.2 a ha; omega
    have hl := put_link (sp := sp) (ik := ik) (i := ix n sp) (v := v) (tb := va_up tb (ix n sp) (some nx)) (G1 := gset G1 td (.inl (V.2.1 4, n, .inr (.inr (.inr (.inr (va_up tb (ix n sp) (some nx)))))))) h rfl hold (t1.keep (gset_ne _ _ (by omega))) (t2.keep (gset_ne _ _ g10)) (gset_eq _ _ _) (va_up nxt nx none) (fun a ha => ?_) (up_eq _ _ _) (fun j hj hji => ?_) ?_
    · refine put_go hV hl hcnt (fun j hj => ?_) hold (fun b b1 b2 b3 b4 => ?_) s6
      · by_cases cj : j = ix n sp
        · subst cj; rw [up_eq, eb]; simp
        · rw [up_ne _ _ cj]; have := hlen j hj; omega
      · rw [gset_ne _ _ b3, t4 b b2 (by omega) (fun w => b1 (g11 b w))]
    · rw [up_ne _ _ (nx0 a ha)]
      exact (t3 a _ _ _ _ (nx0 a ha) (g4 a ha).1).keep (gset_ne _ _ (g4 a ha).2.2.2)
    · rw [up_ne _ _ hji]
      exact (g3 j hj).congr (fun a ha => up_ne _ _ (nx0 a ((g5 j hj a).mp ha).1))
    · rw [eb, up_eq]; exact ⟨rfl, up_eq _ _ _⟩
  | cons b t =>
    rw [eb] at hc0
    rw [hc0.1]
    have bN : N b := ((g5 _ hix b).mp (by rw [eb]; simp)).1
    obtain ⟨q1, q2, q3⟩ := hq b bN
    have next : ∀ nx', nx' = nx → wH (hB_J39_putVal_104 V o G nx' sp (some ik) v 0 1 (some td) (some b)) (PutQ V G o hc nc td nx N hs kr vr ik sp v cnt mc) := by
      intro nx' hnx
      unfold hB_J39_putVal_104
      refine w_bind (g4 b bN).1.gin (w_pos rfl ?_)
      have := hlen _ hix
      rw [eb] at this
      exact put_loop134 hV h g2 g3 hcnt hlen hold rfl hq hab t b [] V.2.2.2.2 nx' eb (by simp at this; omega) hnx
    refine w_neg (by simp) (w_some (w_nH (g4 b bN).1 (w_if (fun c1 => w_nK (g4 b bN).1 (w_if (fun c2 => absurd (q2 c2) (hab b bN)) (fun c2 => w_neg (by simp) (w_some ?_)))) (fun c1 => next nx rfl))))
    rcases q3 c1 c2 nx with ⟨z1, z2⟩ | ⟨z1, z2⟩
    · exact absurd z1 (hab b bN)
    · exact w_call0 z2 (w_pos rfl (next _ rfl))
theorem hm_put {G0 : Gh} {v : Option Nat} (hV : 400 ≤ V.2.2.2.2) (h : HMr V G o hc nc td n N hs kr vr nxt bn tl cnt mc) (hcnt : cnt + 1 ≤ 96) (hlen : ∀ i, i < n → (bn i).length ≤ 7) (hold : o < nx ∧ td < nx ∧ ∀ a, N a → a < nx) (hh : ∀ nx, hF_J39_hash V G0 nx (some ik) = some (sp, G, 0, 0)) (hq : KeyQ V G ik sp N hs kr P) (hab : ∀ a, N a → ¬ P a) :
    wH (hF_J39_put V G0 nx o (some ik) v) (PutQ V G o hc nc td nx N hs kr vr ik sp v cnt mc) := by
  have h0 := h
  obtain ⟨g1, ⟨tb, g2, g3⟩, g4, g5, g6, g7, g8, g9, g10, g11, g12⟩ := h0
  have hn : n ≤ 128 ∧ 16 ≤ n := by rcases g7 with rfl | rfl | rfl | rfl <;> decide
  unfold hF_J39_put
  refine w_call0 (hh _) (w_pos g1.cls ?_)
  refine w_call (Q' := PutQ V G o hc nc td nx N hs kr vr ik sp v cnt mc) ?_ (fun r G' c s hq => w_ret hq)
  unfold hF_J39_putVal
  refine w_hT g1 (w_neg (by simp) (w_some (w_aln g2 (w_neg (fun z => nI_ne0 (by omega) (by omega) z) ?_))))
  exact put_29 (nx := nx + 0) hV h hcnt hlen hold hq hab
/-- the first put: the table is made -/
theorem hm_put0 {G0 : Gh} {v : Option Nat} (hV : 400 ≤ V.2.2.2.2) (h : HOb G o hc none (nI 0) mc 0 none) (hcn : (hc = 19 ∧ nc = 20) ∨ (hc = 22 ∧ nc = 23)) (hb : V.1 ≤ o) (ho : o < nx) (hh : ∀ nx, hF_J39_hash V G0 nx (some ik) = some (sp, G, 0, 0)) (hs kr vr) :
    wH (hF_J39_put V G0 nx o (some ik) v) (fun r G' c s => r = none ∧ c ≤ 3 ∧ s ≤ 150 ∧ (∃ td' n' nxt' bn' tl', HMr V G' o hc nc td' n' (inN (fun _ => False) (nx + 1)) (va_up hs (nx + 1) sp) (va_up kr (nx + 1) (some ik)) (va_up vr (nx + 1) v) nxt' bn' tl' 1 (mc + 1) ∧ (nx ≤ td' ∧ td' < nx + c)) ∧ nx + 1 < nx + c ∧ ∀ b, b ≠ o → b < nx → G' b = G b) := by
  unfold hF_J39_put
  refine w_call0 (hh _) (w_pos h.cls ?_)
  refine w_call (Q' := fun r G' c s => r = none ∧ c ≤ 3 ∧ s ≤ 150 ∧ (∃ td' n' nxt' bn' tl', HMr V G' o hc nc td' n' (inN (fun _ => False) (nx + 1)) (va_up hs (nx + 1) sp) (va_up kr (nx + 1) (some ik)) (va_up vr (nx + 1) v) nxt' bn' tl' 1 (mc + 1) ∧ (nx ≤ td' ∧ td' < nx + c)) ∧ nx + 1 < nx + c ∧ ∀ b, b ≠ o → b < nx → G' b = G b) ?_ (fun r G' c s hq => w_ret hq)
  unfold hF_J39_putVal
  refine w_hT h (w_pos rfl ?_)
  unfold hB_J39_putVal_19
  refine w_pos h.cls ?_
  have hz : wH (hF_J39_resize V G (nx + 0) o) (fun r G' c s => r = some nx ∧ c = 1 ∧ s = 16 ∧ HMr V G' o hc nc nx 16 (fun _ => False) hs kr vr (fun _ => none) (fun _ => []) none 0 mc ∧ ∀ b, b ≠ o → b ≠ nx → G' b = G b) := by
    unfold hF_J39_resize hB_J39_resize_15 hB_J39_resize_85 hB_J39_resize_353
    refine w_hT h (w_pos rfl (w_hH h (w_pos (by decide) (w_pos (by decide) (w_neg (by decide) (w_hsH h hb ?_))))))
    intro G1 t1 t2
    refine w_gn (n := 16) (by decide) (w_tick ?_)
    have t3 : HOb (gset G1 (nx + 0) (.inl (V.2.1 4, 16, .inr (.inr (.inr (.inr (fun _ => none))))))) o hc none (nI 0) mc 12 none := t1.keep (gset_ne _ _ (by omega))
    refine w_hsT t3 hb ?_
    intro G2 u1 u2
    refine w_pos rfl (w_ret ⟨rfl, rfl, rfl, ⟨u1, ⟨fun _ => none, by rw [u2 nx (by omega)]; exact gset_eq _ _ _, fun i _ => rfl⟩, fun a ha => ha.elim, fun i _ a => by simp, fun i _ => by simp, Or.inl rfl, hb, by omega, by omega, fun t ht => (by cases ht), hcn⟩, fun b b1 b2 => ?_⟩)
    rw [u2 b b1]; exact (gset_ne _ _ b2).trans (t2 b b1)
  refine w_call hz ?_
  rintro r G1 c s ⟨rfl, rfl, rfl, t1, t2⟩
  have t1' := t1
  obtain ⟨g1, ⟨tb, g2, g3⟩, -⟩ := t1'
  refine w_some (w_aln g2 ?_)
  refine w_mono (put_29 (nx := nx + 0 + 1) (P := fun _ => False) (ik := ik) (sp := sp) (v := v) hV t1 (by omega) (fun i _ => by simp) ⟨by omega, by omega, fun a ha => ha.elim⟩ (fun a ha => ha.elim) (fun a ha => ha.elim)) ?_
  rintro r G' c s ⟨q1, q2, q3, ⟨td', n', nxt', bn', tl', q4, q5⟩, q6, q7⟩
  exact ⟨q1, by omega, by omega, ⟨td', n', nxt', bn', tl', q4, by omega⟩, by omega, fun b b1 b2 => by rw [q7 b (fun z => z) b1 (by omega) (by omega)]; exact t2 b b1 (by omega)⟩
end H

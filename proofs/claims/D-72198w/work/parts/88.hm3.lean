/-! PURE 19: HashMap.resize -/
/-- a row of nodes from h to t; what is behind t is open -/
def LkT (nxt : Nat → Option Nat) (L : List Nat) (h t : Option Nat) : Prop := (t = none ∧ L = [] ∧ h = none) ∨ (∃ z L', t = some z ∧ L = L' ++ [z] ∧ Chn (va_up nxt z none) h L)
theorem Chn.snoc {f g : Nat → Option Nat} {z e : Nat} : ∀ {L : List Nat} {h : Option Nat}, Chn f h (L ++ [z]) → (∀ a ∈ L, g a = f a) → g z = some e → g e = none → Chn g h (L ++ [z] ++ [e])
  | [], h, c, e1, e2, e3 => ⟨c.1, e2, e3⟩
  | a :: L, h, c, e1, e2, e3 => ⟨c.1, by rw [e1 a (by simp)]; exact Chn.snoc (L := L) c.2 (fun b hb => e1 b (by simp [hb])) e2 e3⟩
theorem LkT.add {nxt : Nat → Option Nat} {L : List Nat} {h : Option Nat} {z e : Nat} (hk : LkT nxt L h (some z)) (hn : L.Nodup) (he : e ∉ L) : LkT (va_up nxt z (some e)) (L ++ [e]) h (some e) := by
  rcases hk with ⟨w, -⟩ | ⟨z', L', w1, w2, w3⟩
  · cases w
  · cases w1
    refine Or.inr ⟨e, L, rfl, rfl, ?_⟩
    subst w2
    have nz : z ∉ L' := by
      intro q
      rw [List.nodup_append] at hn
      exact hn.2.2 z q z (by simp) rfl
    have ez : e ≠ z := fun q => he (by simp [q])
    refine Chn.snoc w3 (fun a ha => ?_) ?_ ?_
    · have a1 : a ≠ z := fun q => nz (q ▸ ha)
      have a2 : a ≠ e := fun q => he (by simp [← q, ha])
      rw [up_ne _ _ a2, up_ne _ _ a1, up_ne _ _ a1]
    · rw [up_ne _ _ (Ne.symm ez), up_eq]
    · rw [up_eq]
theorem LkT.one {nxt : Nat → Option Nat} {e : Nat} : LkT nxt [e] (some e) (some e) := Or.inr ⟨e, [], rfl, rfl, rfl, up_eq _ _ _⟩
theorem LkT.congr {nxt nxt' : Nat → Option Nat} {L : List Nat} {h t : Option Nat} (hk : LkT nxt L h t) (e : ∀ a ∈ L, nxt' a = nxt a) : LkT nxt' L h t := by
  rcases hk with w | ⟨z, L', w1, w2, w3⟩
  · exact Or.inl w
  · refine Or.inr ⟨z, L', w1, w2, w3.congr (fun a ha => ?_)⟩
    by_cases c : a = z
    · subst c; rw [up_eq, up_eq]
    · rw [up_ne _ _ c, up_ne _ _ c]; exact e a ha
section H
variable {V : HEn} {o hc nc td nt n cnt : Nat} {N : Nat → Prop} {hs : Nat → Int32} {kr vr : Nat → Option Nat} {R : Type} {Q : R → Gh → Nat → Nat → Prop}
abbrev AllN (G : Gh) (nc : Nat) (N : Nat → Prop) (hs : Nat → Int32) (kr vr nxt : Nat → Option Nat) : Prop := ∀ a, N a → HNd G a nc (hs a) (kr a) (vr a) (nxt a)
theorem AllN.keep {G G' : Gh} {nxt : Nat → Option Nat} (h : AllN G nc N hs kr vr nxt) (e : ∀ a, N a → G' a = G a) : AllN G' nc N hs kr vr nxt := fun a ha => (h a ha).keep (e a ha)
theorem w_setN {G : Gh} {nxt : Nat → Option Nat} {a : Nat} {t : Option Nat} {f : Gh → HO R} (h : AllN G nc N hs kr vr nxt) (ha : N a) (hb : V.1 ≤ a) (kk : ∀ G', AllN G' nc N hs kr vr (va_up nxt a t) → (∀ b, b ≠ a → G' b = G b) → wH (f G') Q) : wH ((xF V.1 G a fl_HashMap_Node_next (va_rf t)).bind f) Q := by
  refine w_nsN (h a ha) hb (fun G' h1 h2 => kk G' ?_ h2)
  intro b hb'
  by_cases e : b = a
  · subst e; rw [up_eq]; exact h1
  · rw [up_ne _ _ e]; exact (h b hb').keep (h2 b e)
/-- the two halves of a bin -/
abbrev loF (hs : Nat → Int32) (n : Nat) (L : List Nat) : List Nat := L.filter (fun a => decide (hs a &&& nI n = 0))
abbrev hiF (hs : Nat → Int32) (n : Nat) (L : List Nat) : List Nat := L.filter (fun a => !decide (hs a &&& nI n = 0))
abbrev RzK (V : HEn) (td nt n j nc : Nat) (N : Nat → Prop) (hs : Nat → Int32) (kr vr : Nat → Option Nat) (L : List Nat) (nxt0 : Nat → Option Nat) (G0 : Gh) (g : Nat → Option Nat) (k151 : Gh → Nat → Option Nat → Int32 → Int32 → Option Nat → Int32 → HO (Option Nat)) (Q : Option Nat → Gh → Nat → Nat → Prop) : Prop :=
  ∀ (G' : Gh) (nx : Nat) (nxt' : Nat → Option Nat) (hl hh : Option Nat), AllN G' nc N hs kr vr nxt' → (∀ a, a ∉ L → nxt' a = nxt0 a) → Chn nxt' hl (loF hs n L) → Chn nxt' hh (hiF hs n L) → (∃ g', G' nt = some (.inl (V.2.1 4, 2 * n, .inr (.inr (.inr (.inr g'))))) ∧ (∀ i, g' i = if i = j then (if loF hs n L = [] then g i else hl) else if i = j + n then (if hiF hs n L = [] then g i else hh) else g i)) → (∀ b, b ∉ L → b ≠ nt → G' b = G0 b) → wH (k151 G' nx (some td) (nI n) (nI (2 * n)) (some nt) (nI j + 1)) Q
theorem rz_end {G G0 : Gh} {nx j : Nat} {nxt nxt0 : Nat → Option Nat} {L : List Nat} {g : Nat → Option Nat} {l9 l10 l11 l12 : Option Nat} {k151 : Gh → Nat → Option Nat → Int32 → Int32 → Option Nat → Int32 → HO (Option Nat)} {k235} {Q : Option Nat → Gh → Nat → Nat → Prop} (hj : j < n) (hn : n ≤ 64) (hNb : ∀ a, N a → V.1 ≤ a ∧ a ≠ nt) (hnb : V.1 ≤ nt) (hLN : ∀ a ∈ L, N a) (hnd : L.Nodup)
    (h : AllN G nc N hs kr vr nxt) (hx : ∀ a, a ∉ L → nxt a = nxt0 a) (h1 : LkT nxt (loF hs n L) l9 l10) (h2 : LkT nxt (hiF hs n L) l11 l12) (hg : G nt = some (.inl (V.2.1 4, 2 * n, .inr (.inr (.inr (.inr g)))))) (hf : ∀ b, b ∉ L → b ≠ nt → G b = G0 b)
    (kk : RzK V td nt n j nc N hs kr vr L nxt0 G0 g k151 Q) :
    wH (hB_J39_resize_301 V o k151 k235 G nx (some td) (nI n) (nI (2 * n)) (some nt) (nI j) l9 l10 l11 l12 none) Q := by
  have dis : ∀ a, a ∈ loF hs n L → a ∉ hiF hs n L := by
    intro a ha hb
    rw [List.mem_filter] at ha hb
    simp at ha hb
    exact hb.2 ha.2
  unfold hB_J39_resize_301
  refine w_pos rfl ?_
  -- the high half, once the low one is laid
  have hi_end : ∀ (G1 : Gh) (nxt1 : Nat → Option Nat) (g1 : Nat → Option Nat), AllN G1 nc N hs kr vr nxt1 → (∀ a, a ∉ L → nxt1 a = nxt0 a) → Chn nxt1 l9 (loF hs n L) → LkT nxt1 (hiF hs n L) l11 l12 → G1 nt = some (.inl (V.2.1 4, 2 * n, .inr (.inr (.inr (.inr g1))))) → (∀ i, g1 i = if i = j then (if loF hs n L = [] then g i else l9) else g i) → (∀ b, b ∉ L → b ≠ nt → G1 b = G0 b) →
      wH (hB_J39_resize_327 V o k151 G1 nx (some td) (nI n) (nI (2 * n)) (some nt) (nI j) l11 l12) Q := by
    intro G1 nxt1 g1 t1 t2 t3 t4 t5 t6 t7
    unfold hB_J39_resize_327 hB_J39_resize_347
    rcases t4 with ⟨rfl, w2, rfl⟩ | ⟨z, L', rfl, w2, w3⟩
    · refine w_pos rfl (kk G1 nx nxt1 l9 none t1 t2 t3 (by rw [w2]; exact rfl) ⟨g1, t5, fun i => ?_⟩ t7)
      rw [t6 i, w2]
      by_cases c : i = j
      · rw [if_pos c, if_pos c]
      · rw [if_neg c, if_neg c]; simp
    · have hz : z ∈ hiF hs n L := by rw [w2]; simp
      have zL : z ∈ L := (List.mem_filter.mp hz).1
      have zN := hLN z zL
      refine w_neg (by simp) (w_some (w_setN t1 zN (hNb z zN).1 ?_))
      intro G2 u1 u2
      have hh : ∃ b, l11 = some b ∧ N b := by
        cases e : hiF hs n L with
        | nil => rw [e] at hz; cases hz
        | cons b t =>
          rw [e] at w3
          exact ⟨b, w3.1, hLN b (List.mem_filter.mp (show b ∈ hiF hs n L by rw [e]; simp)).1⟩
      obtain ⟨b, hb1, hb2⟩ := hh
      have g2 : G2 nt = some (.inl (V.2.1 4, 2 * n, .inr (.inr (.inr (.inr g1))))) := by rw [u2 nt (Ne.symm (hNb z zN).2)]; exact t5
      refine w_some (w_pos (by rw [hb1]; exact (u1 b hb2).gok _) ?_)
      rw [nI_add]
      refine w_wrR g2 hnb (gd_nI (show j + n < 2 * n by omega) (by omega)) ?_
      refine kk _ nx (va_up nxt1 z none) l9 l11 (u1.keep (fun a ha => gset_ne _ _ (hNb a ha).2)) (fun a ha => ?_) (t3.congr (fun a ha => ?_)) w3 ⟨_, gset_eq _ _ _, fun i => ?_⟩ (fun b hb hb' => ?_)
      · rw [up_ne _ _ (show a ≠ z from fun q => ha (q ▸ zL))]; exact t2 a ha
      · rw [up_ne _ _ (show a ≠ z from fun q => dis a ha (q ▸ hz))]
      · have hne : hiF hs n L ≠ [] := by rw [w2]; simp
        by_cases c1 : i = j
        · rw [up_ne _ _ (by omega), t6 i, if_pos c1, if_pos c1]
        · rw [if_neg c1]
          by_cases c2 : i = j + n
          · rw [if_pos c2, if_neg hne, c2, up_eq]
          · rw [if_neg c2, up_ne _ _ c2, t6 i, if_neg c1]
      · rw [gset_ne _ _ hb', u2 b (fun q => hb (q ▸ zL))]; exact t7 b hb hb'
  rcases h1 with ⟨rfl, w2, rfl⟩ | ⟨z, L', rfl, w2, w3⟩
  · refine w_pos rfl (hi_end G nxt g h hx (by rw [w2]; exact rfl) h2 hg (fun i => ?_) hf)
    rw [w2]; by_cases c : i = j
    · rw [if_pos c]; simp
    · rw [if_neg c]
  · have hz : z ∈ loF hs n L := by rw [w2]; simp
    have zL : z ∈ L := (List.mem_filter.mp hz).1
    have zN := hLN z zL
    refine w_neg (by simp) (w_some (w_setN h zN (hNb z zN).1 ?_))
    intro G2 u1 u2
    have hh : ∃ b, l9 = some b ∧ N b := by
      cases e : loF hs n L with
      | nil => rw [e] at hz; cases hz
      | cons b t =>
        rw [e] at w3
        exact ⟨b, w3.1, hLN b (List.mem_filter.mp (show b ∈ loF hs n L by rw [e]; simp)).1⟩
    obtain ⟨b, hb1, hb2⟩ := hh
    have g2 : G2 nt = some (.inl (V.2.1 4, 2 * n, .inr (.inr (.inr (.inr g))))) := by rw [u2 nt (Ne.symm (hNb z zN).2)]; exact hg
    refine w_some (w_pos (by rw [hb1]; exact (u1 b hb2).gok _) ?_)
    refine w_wrR g2 hnb (gd_nI (show j < 2 * n by omega) (by omega)) ?_
    refine hi_end _ (va_up nxt z none) _ (u1.keep (fun a ha => gset_ne _ _ (hNb a ha).2)) (fun a ha => ?_) w3 (h2.congr (fun a ha => ?_)) (gset_eq _ _ _) (fun i => ?_) (fun b hb hb' => ?_)
    · rw [up_ne _ _ (show a ≠ z from fun q => ha (q ▸ zL))]; exact hx a ha
    · rw [up_ne _ _ (show a ≠ z from fun q => dis z hz (q ▸ ha))]
    · have hne : loF hs n L ≠ [] := by rw [w2]; simp
      by_cases c1 : i = j
      · rw [if_pos c1, if_neg hne, c1, up_eq]
      · rw [if_neg c1, up_ne _ _ c1]
    · rw [gset_ne _ _ hb', u2 b (fun q => hb (q ▸ zL))]; exact hf b hb hb'
theorem rz_inner {G0 : Gh} {j : Nat} {nxt0 : Nat → Option Nat} {L : List Nat} {g : Nat → Option Nat} {k151 : Gh → Nat → Option Nat → Int32 → Int32 → Option Nat → Int32 → HO (Option Nat)} {Q : Option Nat → Gh → Nat → Nat → Prop} (hj : j < n) (hn : n ≤ 64) (hNb : ∀ a, N a → V.1 ≤ a ∧ a ≠ nt) (hnb : V.1 ≤ nt) (hLN : ∀ a ∈ L, N a) (hnd : L.Nodup)
    (kk : RzK V td nt n j nc N hs kr vr L nxt0 G0 g k151 Q) :
    ∀ (t : List Nat) (e : Nat) (P : List Nat) (m nx : Nat) (G : Gh) (nxt : Nat → Option Nat) (l9 l10 l11 l12 : Option Nat), L = P ++ e :: t → AllN G nc N hs kr vr nxt → (∀ a, a ∉ L → nxt a = nxt0 a) → Chn nxt (nxt e) t → LkT nxt (loF hs n P) l9 l10 → LkT nxt (hiF hs n P) l11 l12 → G nt = some (.inl (V.2.1 4, 2 * n, .inr (.inr (.inr (.inr g))))) → (∀ b, b ∉ L → b ≠ nt → G b = G0 b) → t.length + 1 ≤ m →
    wH (hL_J39_resize_235 V o k151 m G nx (some td) (nI n) (nI (2 * n)) (some nt) (nI j) (some e) l9 l10 l11 l12) Q := by
  intro t
  induction t with
  | nil =>
    intro e P m nx G nxt l9 l10 l11 l12 hL h hx hc h1 h2 hg hf hm
    obtain ⟨m, rfl⟩ := Nat.exists_eq_succ_of_ne_zero (show m ≠ 0 by omega)
    have eL : e ∈ L := by rw [hL]; simp
    have eN := hLN e eL
    have eP : e ∉ P := by
      intro q; rw [hL, List.nodup_append] at hnd
      exact hnd.2.2 e q e (by simp) rfl
    have hc' : nxt e = none := hc
    rw [hL_J39_resize_235]
    refine w_some (w_nN (h e eN) (w_nH (h e eN) ?_))
    rw [hc']
    refine w_if (fun c => ?_) (fun c => ?_)
    · have f1 : loF hs n L = loF hs n P ++ [e] := by rw [hL]; simp [c]
      have f2 : hiF hs n L = hiF hs n P := by rw [hL]; simp [c]
      rcases h1 with ⟨rfl, w2, rfl⟩ | ⟨z, L', rfl, w2, w3⟩
      · refine w_pos rfl ?_
        unfold hB_J39_resize_271
        refine rz_end hj hn hNb hnb hLN hnd h hx ?_ ?_ hg hf kk
        · rw [f1, w2]; exact LkT.one
        · rw [f2]; exact h2
      · have zP : z ∈ P := (List.mem_filter.mp (show z ∈ loF hs n P by rw [w2]; simp)).1
        have zL : z ∈ L := by rw [hL]; simp [zP]
        refine w_neg (by simp) (w_some (w_setN h (hLN z zL) (hNb z (hLN z zL)).1 ?_))
        intro G1 u1 u2
        unfold hB_J39_resize_271
        refine rz_end hj hn hNb hnb hLN hnd u1 (fun a ha => by rw [up_ne _ _ (show a ≠ z from fun q => ha (q ▸ zL))]; exact hx a ha) ?_ ?_ ?_ (fun b hb hb' => by rw [u2 b (fun q => hb (q ▸ zL))]; exact hf b hb hb') kk
        · rw [f1]
          refine LkT.add (Or.inr ⟨z, L', rfl, w2, w3⟩) ?_ (fun q => eP (List.mem_filter.mp q).1)
          refine List.Nodup.sublist List.filter_sublist ?_
          rw [hL, List.nodup_append] at hnd; exact hnd.1
        · rw [f2]
          refine h2.congr (fun a ha => up_ne _ _ (fun q => ?_))
          subst q
          have y1 := (List.mem_filter.mp ha).2
          have y2 := (List.mem_filter.mp (show a ∈ loF hs n P by rw [w2]; simp)).2
          simp at y1 y2
          exact y1 y2
        · rw [u2 nt (Ne.symm (hNb z (hLN z zL)).2)]; exact hg
    · have f1 : loF hs n L = loF hs n P := by rw [hL]; simp [c]
      have f2 : hiF hs n L = hiF hs n P ++ [e] := by rw [hL]; simp [c]
      rcases h2 with ⟨rfl, w2, rfl⟩ | ⟨z, L', rfl, w2, w3⟩
      · refine w_pos rfl ?_
        unfold hB_J39_resize_297
        refine rz_end hj hn hNb hnb hLN hnd h hx ?_ ?_ hg hf kk
        · rw [f1]; exact h1
        · rw [f2, w2]; exact LkT.one
      · have zP : z ∈ P := (List.mem_filter.mp (show z ∈ hiF hs n P by rw [w2]; simp)).1
        have zL : z ∈ L := by rw [hL]; simp [zP]
        refine w_neg (by simp) (w_some (w_setN h (hLN z zL) (hNb z (hLN z zL)).1 ?_))
        intro G1 u1 u2
        unfold hB_J39_resize_297
        refine rz_end hj hn hNb hnb hLN hnd u1 (fun a ha => by rw [up_ne _ _ (show a ≠ z from fun q => ha (q ▸ zL))]; exact hx a ha) ?_ ?_ ?_ (fun b hb hb' => by rw [u2 b (fun q => hb (q ▸ zL))]; exact hf b hb hb') kk
        · rw [f1]
          refine h1.congr (fun a ha => up_ne _ _ (fun q => ?_))
          subst q
          have y1 := (List.mem_filter.mp ha).2
          have y2 := (List.mem_filter.mp (show a ∈ hiF hs n P by rw [w2]; simp)).2
          simp at y1 y2
          exact y2 y1
        · rw [f2]
          refine LkT.add (Or.inr ⟨z, L', rfl, w2, w3⟩) ?_ (fun q => eP (List.mem_filter.mp q).1)
          refine List.Nodup.sublist List.filter_sublist ?_
          rw [hL, List.nodup_append] at hnd; exact hnd.1
        · rw [u2 nt (Ne.symm (hNb z (hLN z zL)).2)]; exact hg
  | cons d t ih =>
    intro e P m nx G nxt l9 l10 l11 l12 hL h hx hc h1 h2 hg hf hm
    obtain ⟨m, rfl⟩ := Nat.exists_eq_succ_of_ne_zero (show m ≠ 0 by omega)
    have eL : e ∈ L := by rw [hL]; simp
    have eN := hLN e eL
    have hnd' := hnd
    rw [hL, List.nodup_append] at hnd'
    have eP : e ∉ P := fun q => hnd'.2.2 e q e (by simp) rfl
    obtain ⟨hc1, hc2⟩ := hc
    have hL2 : L = (P ++ [e]) ++ d :: t := by rw [hL]; simp
    have tail : ∀ z, z ∈ P → ∀ a ∈ d :: t, a ≠ z := fun z hz a ha q => hnd'.2.2 z hz a (by simp at ha ⊢; right; exact ha) q.symm
    have hm' : t.length + 1 ≤ m := by simp at hm; omega
    rw [hL_J39_resize_235]
    refine w_some (w_nN (h e eN) (w_nH (h e eN) ?_))
    rw [hc1]
    refine w_if (fun c => ?_) (fun c => ?_)
    · have f1 : loF hs n (P ++ [e]) = loF hs n P ++ [e] := by simp [c]
      have f2 : hiF hs n (P ++ [e]) = hiF hs n P := by simp [c]
      rcases h1 with ⟨rfl, w2, rfl⟩ | ⟨z, L', rfl, w2, w3⟩
      · refine w_pos rfl ?_
        unfold hB_J39_resize_271 hB_J39_resize_301
        refine w_neg (by simp) (ih d (P ++ [e]) m nx G nxt _ _ _ _ hL2 h hx hc2 ?_ ?_ hg hf hm')
        · rw [f1, w2]; exact LkT.one
        · rw [f2]; exact h2
      · have zP : z ∈ P := (List.mem_filter.mp (show z ∈ loF hs n P by rw [w2]; simp)).1
        have zL : z ∈ L := by rw [hL]; simp [zP]
        refine w_neg (by simp) (w_some (w_setN h (hLN z zL) (hNb z (hLN z zL)).1 ?_))
        intro G1 u1 u2
        unfold hB_J39_resize_271 hB_J39_resize_301
        refine w_neg (by simp) (ih d (P ++ [e]) m nx G1 _ _ _ _ _ hL2 u1 (fun a ha => by rw [up_ne _ _ (show a ≠ z from fun q => ha (q ▸ zL))]; exact hx a ha) ?_ ?_ ?_ ?_ (fun b hb hb' => by rw [u2 b (fun q => hb (q ▸ zL))]; exact hf b hb hb') hm')
        · rw [up_ne _ _ (tail z zP d (by simp))]
          exact hc2.congr (fun a ha => up_ne _ _ (tail z zP a (by simp [ha])))
        · rw [f1]
          refine LkT.add (Or.inr ⟨z, L', rfl, w2, w3⟩) (List.Nodup.sublist List.filter_sublist hnd'.1) (fun q => eP (List.mem_filter.mp q).1)
        · rw [f2]
          refine h2.congr (fun a ha => up_ne _ _ (fun q => ?_))
          subst q
          have y1 := (List.mem_filter.mp ha).2
          have y2 := (List.mem_filter.mp (show a ∈ loF hs n P by rw [w2]; simp)).2
          simp at y1 y2
          exact y1 y2
        · rw [u2 nt (Ne.symm (hNb z (hLN z zL)).2)]; exact hg
    · have f1 : loF hs n (P ++ [e]) = loF hs n P := by simp [c]
      have f2 : hiF hs n (P ++ [e]) = hiF hs n P ++ [e] := by simp [c]
      rcases h2 with ⟨rfl, w2, rfl⟩ | ⟨z, L', rfl, w2, w3⟩
      · refine w_pos rfl ?_
        unfold hB_J39_resize_297 hB_J39_resize_301
        refine w_neg (by simp) (ih d (P ++ [e]) m nx G nxt _ _ _ _ hL2 h hx hc2 ?_ ?_ hg hf hm')
        · rw [f1]; exact h1
        · rw [f2, w2]; exact LkT.one
      · have zP : z ∈ P := (List.mem_filter.mp (show z ∈ hiF hs n P by rw [w2]; simp)).1
        have zL : z ∈ L := by rw [hL]; simp [zP]
        refine w_neg (by simp) (w_some (w_setN h (hLN z zL) (hNb z (hLN z zL)).1 ?_))
        intro G1 u1 u2
        unfold hB_J39_resize_297 hB_J39_resize_301
        refine w_neg (by simp) (ih d (P ++ [e]) m nx G1 _ _ _ _ _ hL2 u1 (fun a ha => by rw [up_ne _ _ (show a ≠ z from fun q => ha (q ▸ zL))]; exact hx a ha) ?_ ?_ ?_ ?_ (fun b hb hb' => by rw [u2 b (fun q => hb (q ▸ zL))]; exact hf b hb hb') hm')
        · rw [up_ne _ _ (tail z zP d (by simp))]
          exact hc2.congr (fun a ha => up_ne _ _ (tail z zP a (by simp [ha])))
        · rw [f1]
          refine h1.congr (fun a ha => up_ne _ _ (fun q => ?_))
          subst q
          have y1 := (List.mem_filter.mp ha).2
          have y2 := (List.mem_filter.mp (show a ∈ hiF hs n P by rw [w2]; simp)).2
          simp at y1 y2
          exact y2 y1
        · rw [f2]
          refine LkT.add (Or.inr ⟨z, L', rfl, w2, w3⟩) (List.Nodup.sublist List.filter_sublist hnd'.1) (fun q => eP (List.mem_filter.mp q).1)
        · rw [u2 nt (Ne.symm (hNb z (hLN z zL)).2)]; exact hg
/-- the bins behind a doubling -/
def bn2 (hs : Nat → Int32) (n : Nat) (bn : Nat → List Nat) : Nat → List Nat := fun i => if i < n then loF hs n (bn i) else hiF hs n (bn (i - n))
theorem rz_outer {bn : Nat → List Nat} {tb : Nat → Option Nat} {G0 : Gh} (hV : 400 ≤ V.2.2.2.2) (hn : n = 16 ∨ n = 32 ∨ n = 64) (hNb : ∀ a, N a → V.1 ≤ a ∧ a ≠ nt ∧ a ≠ td) (hnb : V.1 ≤ nt) (htb : V.1 ≤ td) (hne : nt ≠ td) (hbn : ∀ i, i < n → ∀ a, a ∈ bn i ↔ (N a ∧ ix n (hs a) = i)) (hnd : ∀ i, i < n → (bn i).Nodup) (hlen : ∀ i, i < n → (bn i).length ≤ 100) :
    ∀ (q m j nx : Nat) (G : Gh) (nxt fo g : Nat → Option Nat), q = n - j → j ≤ n → n - j + 1 ≤ m → AllN G nc N hs kr vr nxt → G td = some (.inl (V.2.1 4, n, .inr (.inr (.inr (.inr fo))))) → (∀ i, j ≤ i → i < n → fo i = tb i ∧ Chn nxt (tb i) (bn i)) → G nt = some (.inl (V.2.1 4, 2 * n, .inr (.inr (.inr (.inr g))))) → (∀ i, i < j → Chn nxt (g i) (loF hs n (bn i)) ∧ Chn nxt (g (i + n)) (hiF hs n (bn i))) → (∀ i, j ≤ i → i < n → g i = none ∧ g (i + n) = none) → (∀ b, ¬ N b → b ≠ nt → b ≠ td → G b = G0 b) →
    wH (hL_J39_resize_151 V o m G nx (some td) (nI n) (nI (2 * n)) (some nt) (nI j)) (fun r G' c s => r = some nt ∧ c = 0 ∧ s = 0 ∧ (∃ nxt' g', AllN G' nc N hs kr vr nxt' ∧ G' nt = some (.inl (V.2.1 4, 2 * n, .inr (.inr (.inr (.inr g'))))) ∧ ∀ i, i < 2 * n → Chn nxt' (g' i) (bn2 hs n bn i)) ∧ ∀ b, ¬ N b → b ≠ nt → b ≠ td → G' b = G0 b) := by
  intro q
  have hpw : pw n := by rcases hn with rfl | rfl | rfl <;> simp [pw]
  have hpw2 : pw (2 * n) := by rcases hn with rfl | rfl | rfl <;> simp [pw]
  have hn64 : n ≤ 64 ∧ 16 ≤ n := by rcases hn with rfl | rfl | rfl <;> decide
  induction q with
  | zero =>
    intro m j nx G nxt fo g hq hj hm h1 h2 h3 h4 h5 h6 h7
    have : j = n := by omega
    subst this
    obtain ⟨m, rfl⟩ := Nat.exists_eq_succ_of_ne_zero (show m ≠ 0 by omega)
    rw [hL_J39_resize_151]
    unfold hB_J39_resize_353
    refine w_pos (nI_le (Nat.le_refl _) (by omega)) (w_ret ⟨rfl, rfl, rfl, ⟨nxt, g, h1, h4, fun i hi => ?_⟩, h7⟩)
    unfold bn2
    by_cases c : i < j
    · rw [if_pos c]; exact (h5 i c).1
    · rw [if_neg c]
      have := (h5 (i - j) (by omega)).2
      rwa [Nat.sub_add_cancel (by omega)] at this
  | succ q ih =>
    intro m j nx G nxt fo g hq hj hm h1 h2 h3 h4 h5 h6 h7
    have jn : j < n := by omega
    obtain ⟨m, rfl⟩ := Nat.exists_eq_succ_of_ne_zero (show m ≠ 0 by omega)
    obtain ⟨f1, f2⟩ := h3 j (Nat.le_refl _) jn
    have mem : ∀ a ∈ bn j, N a := fun a ha => ((hbn j jn a).mp ha).1
    have far : ∀ i, i < n → i ≠ j → ∀ a ∈ bn i, a ∉ bn j := fun i hi hij a ha hb => hij (((hbn i hi a).mp ha).2.symm.trans ((hbn j jn a).mp hb).2)
    rw [hL_J39_resize_151]
    refine w_neg (nI_ge jn (by omega)) (w_some (w_rdR h2 (gd_nI jn (by omega)) ?_))
    rw [f1]
    -- how it goes on
    have hK : ∀ (G' : Gh) (nx : Nat) (nxt' : Nat → Option Nat) (fo' : Nat → Option Nat) (g' : Nat → Option Nat), AllN G' nc N hs kr vr nxt' → (∀ a, a ∉ bn j → nxt' a = nxt a) → G' td = some (.inl (V.2.1 4, n, .inr (.inr (.inr (.inr fo'))))) → (∀ i, j < i → i < n → fo' i = fo i) → G' nt = some (.inl (V.2.1 4, 2 * n, .inr (.inr (.inr (.inr g'))))) → Chn nxt' (g' j) (loF hs n (bn j)) → Chn nxt' (g' (j + n)) (hiF hs n (bn j)) → (∀ i, i ≠ j → i ≠ j + n → g' i = g i) → (∀ b, ¬ N b → b ≠ nt → b ≠ td → G' b = G0 b) →
        wH (hL_J39_resize_151 V o m G' nx (some td) (nI n) (nI (2 * n)) (some nt) (nI j + 1)) (fun r G' c s => r = some nt ∧ c = 0 ∧ s = 0 ∧ (∃ nxt' g', AllN G' nc N hs kr vr nxt' ∧ G' nt = some (.inl (V.2.1 4, 2 * n, .inr (.inr (.inr (.inr g'))))) ∧ ∀ i, i < 2 * n → Chn nxt' (g' i) (bn2 hs n bn i)) ∧ ∀ b, ¬ N b → b ≠ nt → b ≠ td → G' b = G0 b) := by
      intro G' nx nxt' fo' g' t1 t2 t3 t4 t5 t6 t7 t8 t9
      rw [nI_1]
      refine ih m (j + 1) nx G' nxt' fo' g' (by omega) (by omega) (by omega) t1 t3 (fun i hi hi' => ?_) t5 (fun i hi => ?_) (fun i hi hi' => ?_) t9
      · obtain ⟨z1, z2⟩ := h3 i (by omega) hi'
        exact ⟨by rw [t4 i (by omega) hi']; exact z1, z2.congr (fun a ha => t2 a (far i hi' (by omega) a ha))⟩
      · by_cases c : i = j
        · subst c; exact ⟨t6, t7⟩
        · obtain ⟨z1, z2⟩ := h5 i (by omega)
          rw [t8 i c (by omega), t8 (i + n) (by omega) (by omega)]
          exact ⟨z1.congr (fun a ha => t2 a (far i (by omega) c a (List.mem_filter.mp ha).1)), z2.congr (fun a ha => t2 a (far i (by omega) c a (List.mem_filter.mp ha).1))⟩
      · rw [t8 i (by omega) (by omega), t8 (i + n) (by omega) (by omega)]; exact h6 i (by omega) hi'
    have g0 := h6 j (Nat.le_refl _) jn
    cases eb : bn j with
    | nil =>
      rw [eb] at f2
      have f2 : tb j = none := f2
      rw [f2]
      unfold hB_J39_resize_347
      refine w_pos rfl (hK G nx nxt fo g h1 (fun _ _ => rfl) h2 (fun _ _ _ => rfl) h4 ?_ ?_ (fun _ _ _ => rfl) h7)
      · rw [eb, g0.1]; exact rfl
      · rw [eb, g0.2]; exact rfl
    | cons a t =>
      rw [eb] at f2
      obtain ⟨f2, f3⟩ := f2
      rw [f2]
      have aN : N a := mem a (by rw [eb]; simp)
      obtain ⟨a1, a2, a3⟩ := hNb a aN
      refine w_neg (by simp) (w_pos rfl (w_wrR h2 htb (gd_nI jn (by omega)) (w_some ?_)))
      generalize hG1 : gset G td _ = G1
      have k1 : ∀ b, b ≠ td → G1 b = G b := fun b hb => by rw [← hG1, gset_ne _ _ hb]
      have e1 : G1 td = some (.inl (V.2.1 4, n, .inr (.inr (.inr (.inr (va_up fo j none)))))) := by rw [← hG1, gset_eq]
      clear hG1
      have n1 : AllN G1 nc N hs kr vr nxt := h1.keep (fun b hb => k1 b (hNb b hb).2.2)
      have e2 : G1 nt = some (.inl (V.2.1 4, 2 * n, .inr (.inr (.inr (.inr g))))) := by rw [k1 nt hne]; exact h4
      refine w_nN (n1 a aN) ?_
      have hh := ix_two hn (hs a)
      have hi := ((hbn j jn a).mp (by rw [eb]; simp)).2
      cases et : t with
      | nil =>
        rw [et] at f3
        have f3 : nxt a = none := f3
        rw [f3]
        refine w_pos rfl (w_nH (n1 a aN) (w_some (w_pos ((n1 a aN).gok _) ?_)))
        rw [Int32.and_comm, ix_eq hpw2]
        refine w_wrR e2 hnb (gd_nI (ix_lt hpw2 _) (by omega)) ?_
        unfold hB_J39_resize_347
        refine hK _ nx nxt (va_up fo j none) _ (n1.keep (fun b hb => gset_ne _ _ (hNb b hb).2.1)) (fun _ _ => rfl) (by rw [gset_ne _ _ (Ne.symm hne)]; exact e1) (fun i hi _ => up_ne _ _ (by omega)) (gset_eq _ _ _) ?_ ?_ (fun i i1 i2 => up_ne _ _ ?_) (fun b b1 b2 b3 => by rw [gset_ne _ _ b2, k1 b b3]; exact h7 b b1 b2 b3)
        · rw [eb, et]
          by_cases c : hs a &&& nI n = 0
          · rw [if_pos c, hi] at hh
            rw [hh, up_eq]
            simp only [loF, List.filter_cons, c, decide_true, if_true, List.filter_nil]
            exact ⟨rfl, f3⟩
          · rw [if_neg c, hi] at hh
            rw [hh, up_ne _ _ (by omega), g0.1]
            simp only [loF, List.filter_cons, c, decide_false, List.filter_nil]
            exact rfl
        · rw [eb, et]
          by_cases c : hs a &&& nI n = 0
          · rw [if_pos c, hi] at hh
            rw [hh, up_ne _ _ (by omega), g0.2]
            simp only [hiF, List.filter_cons, c, decide_true, Bool.not_true, List.filter_nil]
            exact rfl
          · rw [if_neg c, hi] at hh
            rw [hh, up_eq]
            simp only [hiF, List.filter_cons, c, decide_false, Bool.not_false, if_true, List.filter_nil]
            exact ⟨rfl, f3⟩
        · by_cases c : hs a &&& nI n = 0
          · rw [if_pos c, hi] at hh; omega
          · rw [if_neg c, hi] at hh; omega
      | cons d t' =>
        rw [et] at f3
        have f3' := f3.1
        rw [f3']
        refine w_neg (by simp) (w_bind (n1 a aN).gin (w_pos rfl ?_))
        have hl := hlen j jn
        rw [eb, et] at hl
        refine rz_inner (L := bn j) (nxt0 := nxt) (G0 := G1) (g := g) jn hn64.1 (fun b hb => ⟨(hNb b hb).1, (hNb b hb).2.1⟩) hnb mem (hnd j jn) ?_ (d :: t') a [] _ nx G1 nxt none none none none (by rw [eb, et]; rfl) n1 (fun _ _ => rfl) f3 (Or.inl ⟨rfl, rfl, rfl⟩) (Or.inl ⟨rfl, rfl, rfl⟩) e2 (fun _ _ _ => rfl) (by simp at hl ⊢; omega)
        intro G' nx nxt' hl' hh' t1 t2 t3 t4 t5 t6
        obtain ⟨g', u1, u2⟩ := t5
        refine hK G' nx nxt' (va_up fo j none) g' t1 t2 ?_ (fun i hi _ => up_ne _ _ (by omega)) u1 ?_ ?_ (fun i i1 i2 => by rw [u2 i, if_neg i1, if_neg i2]) (fun b b1 b2 b3 => ?_)
        · rw [t6 td (fun w => (hNb td (mem td w)).2.2 rfl) (Ne.symm hne)]; exact e1
        · rw [u2 j, if_pos rfl]
          by_cases c : loF hs n (bn j) = []
          · rw [if_pos c, c, g0.1]; exact rfl
          · rw [if_neg c]; exact t3
        · rw [u2 (j + n), if_neg (by omega), if_pos rfl]
          by_cases c : hiF hs n (bn j) = []
          · rw [if_pos c, c, g0.2]; exact rfl
          · rw [if_neg c]; exact t4
        · rw [t6 b (fun w => b1 (mem b w)) b2, k1 b b3]; exact h7 b b1 b2 b3
theorem resize_at {G : Gh} {nx : Nat} {nxt : Nat → Option Nat} {bn : Nat → List Nat} {tl : Option Nat} {mc : Int32} (hV : 400 ≤ V.2.2.2.2) (h : HMr V G o hc nc td n N hs kr vr nxt bn tl cnt mc) (hn : n = 16 ∨ n = 32 ∨ n = 64) (hlen : ∀ i, i < n → (bn i).length ≤ 100) (hold : o < nx ∧ td < nx ∧ ∀ a, N a → a < nx) :
    wH (hF_J39_resize V G nx o) (fun r G' c s => r = some nx ∧ c = 1 ∧ s = 2 * n ∧ (∃ nxt', HMr V G' o hc nc nx (2 * n) N hs kr vr nxt' (bn2 hs n bn) tl cnt mc) ∧ ∀ b, ¬ N b → b ≠ o → b ≠ td → b < nx → G' b = G b) := by
  obtain ⟨h1, ⟨tb, h2, h3⟩, h4, h5, h6, h7, h8, h9, h10, h11, h12⟩ := h
  have hn64 : n ≤ 64 ∧ 16 ≤ n := by rcases hn with rfl | rfl | rfl <;> decide
  have sh : nI n <<< ((1 : Int32) &&& 31) = nI (2 * n) := by rcases hn with rfl | rfl | rfl <;> decide
  have sh2 : nI (n / 4 * 3) <<< ((1 : Int32) &&& 31) = nI (2 * n / 4 * 3) := by rcases hn with rfl | rfl | rfl <;> decide
  unfold hF_J39_resize hB_J39_resize_15
  refine w_hT h1 (w_neg (by simp) (w_some (w_aln h2 (w_hH h1 (w_neg (fun z => nI_nle (by omega) (by omega) z) (w_pos ?_ ?_))))))
  · rcases hn with rfl | rfl | rfl <;> decide
  · rw [sh, sh2]
    refine w_neg ?_ (w_neg ?_ ?_)
    · rcases hn with rfl | rfl | rfl <;> decide
    · rcases hn with rfl | rfl | rfl <;> decide
    · unfold hB_J39_resize_85
      refine w_neg ?_ (w_hsH h1 h8 ?_)
      · rcases hn with rfl | rfl | rfl <;> decide
      · intro G1 t1 t2
        refine w_gn (by omega) (w_tick ?_)
        have t3 : HOb (gset G1 nx (.inl (V.2.1 4, 2 * n, .inr (.inr (.inr (.inr (fun _ => none))))))) o hc (some td) (nI cnt) mc (nI (2 * n / 4 * 3)) tl := t1.keep (gset_ne _ _ (by omega))
        refine w_hsT t3 h8 ?_
        intro G2 u1 u2
        have k2 : ∀ b, b ≠ o → b ≠ nx → G2 b = G b := fun b b1 b2 => by rw [u2 b b1, gset_ne _ _ b2, t2 b b1]
        refine w_neg (by simp) ?_
        refine w_mono (rz_outer (G0 := G2) (tb := tb) hV hn (fun a ha => ⟨(h4 a ha).2.1, by have := hold.2.2 a ha; omega, (h4 a ha).2.2.2⟩) (by omega) h9 (by omega) h5 h6 hlen n _ 0 _ G2 nxt tb (fun _ => none) rfl (by omega) (by omega) (fun a ha => (h4 a ha).1.keep (k2 a (h4 a ha).2.2.1 (by have := hold.2.2 a ha; omega))) ?_ (fun i _ hi => ⟨rfl, h3 i hi⟩) ?_ (fun i hi => absurd hi (Nat.not_lt_zero _)) (fun _ _ _ => ⟨rfl, rfl⟩) (fun _ _ _ _ => rfl)) ?_
        · rw [k2 td (Ne.symm h10) (by omega)]; exact h2
        · rw [u2 nx (by omega), gset_eq]
        · rintro r G' c s ⟨rfl, rfl, rfl, ⟨nxt', g', v1, v2, v3⟩, v4⟩
          have no : ¬ N o := fun z => (h4 o z).2.2.1 rfl
          refine ⟨rfl, rfl, rfl, ⟨nxt', u1.keep (v4 o no (by omega) h10), ⟨g', v2, v3⟩, fun a ha => ⟨v1 a ha, (h4 a ha).2.1, (h4 a ha).2.2.1, by have := hold.2.2 a ha; omega⟩, ?_, ?_, ?_, h8, by omega, by omega, h11, h12⟩, ?_⟩
          · intro i hi a
            unfold bn2
            by_cases c : i < n
            · rw [if_pos c, List.mem_filter, h5 i c, ix_two hn]
              simp only [decide_eq_true_eq]
              constructor
              · rintro ⟨⟨w1, w2⟩, w3⟩; rw [if_pos w3]; exact ⟨w1, w2⟩
              · rintro ⟨w1, w2⟩
                by_cases d : hs a &&& nI n = 0
                · rw [if_pos d] at w2; exact ⟨⟨w1, w2⟩, d⟩
                · rw [if_neg d] at w2; omega
            · rw [if_neg c, List.mem_filter, h5 (i - n) (by omega), ix_two hn]
              simp only [Bool.not_eq_true', decide_eq_false_iff_not]
              have := ix_lt h7 (hs a)
              constructor
              · rintro ⟨⟨w1, w2⟩, w3⟩; rw [if_neg w3]; exact ⟨w1, by omega⟩
              · rintro ⟨w1, w2⟩
                by_cases d : hs a &&& nI n = 0
                · rw [if_pos d] at w2; omega
                · rw [if_neg d] at w2; exact ⟨⟨w1, by omega⟩, d⟩
          · intro i hi
            unfold bn2
            by_cases c : i < n
            · rw [if_pos c]; exact List.Nodup.sublist List.filter_sublist (h6 i c)
            · rw [if_neg c]; exact List.Nodup.sublist List.filter_sublist (h6 (i - n) (by omega))
          · rcases hn with rfl | rfl | rfl <;> simp [pw]
          · intro b b1 b2 b3 b4
            rw [v4 b b1 (by omega) b3]; exact k2 b b2 (by omega)
theorem bn2_len {bn : Nat → List Nat} {M : Nat} (h : ∀ i, i < n → (bn i).length ≤ M) : ∀ i, i < 2 * n → (bn2 hs n bn i).length ≤ M := by
  intro i hi
  unfold bn2
  by_cases c : i < n
  · rw [if_pos c]; exact Nat.le_trans (List.length_filter_le _ _) (h i c)
  · rw [if_neg c]; exact Nat.le_trans (List.length_filter_le _ _) (h (i - n) (by omega))
end H

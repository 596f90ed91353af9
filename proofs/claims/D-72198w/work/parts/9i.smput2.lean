/-! PURE 39: HashMap with Strings as keys: put of a new text, whole -/
section M
variable {V : HEn} {G : Gh} {o td n nx ik id cnt cap : Nat} {N : Nat → Prop} {D : Nat → Int32 × Option Nat × Option Nat} {ko kd : Nat → Nat} {ks : Nat → List Nat} {tb : Nat → Option Nat} {mc : Int32} {s : List Nat} {v : Option Nat}
theorem flt_len (f : Nat → Bool) : ∀ l : List Nat, (l.filter f).length + (l.filter (fun a => !f a)).length = l.length
  | [] => rfl
  | a :: t => by
    have := flt_len f t
    cases h : f a <;> simp [List.filter_cons, h] <;> omega
theorem Chn.last {nxt : Nat → Option Nat} {b : Nat} : ∀ {Pf : List Nat} {r : Option Nat}, Chn nxt r (Pf ++ [b]) → nxt b = none
  | [], _, h => h.2
  | _ :: Pf, _, h => Chn.last (Pf := Pf) h.2
theorem Chn.mid {nxt : Nat → Option Nat} {b d : Nat} {t : List Nat} : ∀ {Pf : List Nat} {r : Option Nat}, Chn nxt r (Pf ++ b :: d :: t) → nxt b = some d
  | [], _, h => h.2.1
  | _ :: Pf, _, h => Chn.mid (Pf := Pf) h.2
theorem Chn.head {nxt : Nat → Option Nat} {b : Nat} {t : List Nat} : ∀ {Pf : List Nat} {r : Option Nat}, Chn nxt r (Pf ++ b :: t) → Chn nxt (nxt b) t
  | [], _, h => h.2
  | _ :: Pf, _, h => Chn.head (Pf := Pf) h.2
/-- the bin, with a node more at its end -/
theorem bin_app {G2 : Gh} {i nx : Nat} {L : List Nat} {nxt : Nat → Option Nat} {b : Nat} {Pf : List Nat} {B : Nat → Prop} (nB : ¬ B nx) (b1 : Chn nxt (tb i) L) (b2 : L.Nodup) (b3 : ∀ a, a ∈ L ↔ B a) (b4 : L.length ≤ cap) (hL : L = Pf ++ [b]) (e1 : HNd G2 nx 20 (spr (hsh s)) (some ik) v none) (e2 : HNd G2 b 20 (D b).1 (D b).2.1 (D b).2.2 (some nx)) (e3 : ∀ a ∈ L, a ≠ b → HNd G2 a 20 (D a).1 (D a).2.1 (D a).2.2 (nxt a)) : ∃ nxt', Chn nxt' (tb i) (L ++ [nx]) ∧ (L ++ [nx]).Nodup ∧ (∀ a, a ∈ L ++ [nx] ↔ inN B nx a) ∧ (L ++ [nx]).length ≤ cap + 1 ∧ ∀ a ∈ L ++ [nx], HNd G2 a 20 (va_up D nx (spr (hsh s), some ik, v) a).1 (va_up D nx (spr (hsh s), some ik, v) a).2.1 (va_up D nx (spr (hsh s), some ik, v) a).2.2 (nxt' a) := by
  have ne : ∀ a ∈ L, a ≠ nx := fun a ha z => nB (z ▸ (b3 a).mp ha)
  have bL : b ∈ L := by rw [hL]; simp
  refine ⟨va_up (va_up nxt nx none) b (some nx), ?_, ?_, fun a => ?_, by simp; omega, fun a ha => ?_⟩
  · rw [hL] at b1 ⊢
    refine Chn.end_ (f := nxt) b1 (fun a ha => ?_) (up_eq _ _ _) (by rw [up_ne _ _ (Ne.symm (ne b bL)), up_eq])
    have ab : a ≠ b := by
      intro z
      rw [hL, List.nodup_append] at b2
      exact b2.2.2 a ha b (by simp) z
    rw [up_ne _ _ ab, up_ne _ _ (ne a (by rw [hL]; simp [ha]))]
  · rw [List.nodup_append]
    refine ⟨b2, by simp, fun a ha c hc e => ?_⟩
    simp at hc
    exact ne a ha (e.trans hc)
  · rw [List.mem_append, b3 a]; simp [inN]
  · rcases List.mem_append.mp ha with z | z
    · rw [up_ne D _ (ne a z)]
      by_cases c : a = b
      · subst c; rw [up_eq]; exact e2
      · rw [up_ne _ _ c, up_ne _ _ (ne a z)]; exact e3 a z c
    · simp at z
      subst z
      rw [up_eq, up_ne _ _ (Ne.symm (ne b bL)), up_eq]; exact e1
/-- a bin of eight or more: a larger table, or a tree -/
theorem sm_tree {G2 : Gh} {i : Nat} {L' : List Nat} {nxt' : Nat → Option Nat} (hP : PutH V G o td nx N ko kd ks cnt cap ik id s) (h : SMb V G o td n N D ko kd ks tb cnt mc cap) (hi : i = ix n (spr (hsh s))) (h1 : HOb G2 o 19 (some td) (nI cnt) mc (nI (n / 4 * 3)) none) (h2 : G2 td = some (.inl (V.2.1 4, n, .inr (.inr (.inr (.inr tb)))))) (hf : ∀ b, ¬ Bin n N D i b → b ≠ o → b ≠ td → b ≠ nx → G2 b = G b) (c1 : Chn nxt' (tb i) L') (c2 : L'.Nodup) (c3 : ∀ a, a ∈ L' ↔ inN (Bin n N D i) nx a) (c4 : L'.length ≤ cap + 1) (c5 : ∀ a ∈ L', HNd G2 a 20 (va_up D nx (spr (hsh s), some ik, v) a).1 (va_up D nx (spr (hsh s), some ik, v) a).2.1 (va_up D nx (spr (hsh s), some ik, v) a).2.2 (nxt' a)) (hlen : 9 ≤ L'.length) :
    wH (cB (hF_J39_treeifyBin V G2 (nx + 1) o (some td) (spr (hsh s))) fun _ G62 c63 => hB_J39_putVal_222 V o G62 ((nx + 1) + c63) v 0 1 none) (fun r G' c s' => SPut V G o td nx N D ko kd ks cnt cap ik id s v r G' (1 + c) (6 + s')) := by
  have hP0 := hP
  obtain ⟨p1, p2, p3, p4, p5, p6, p7, p8, p9, p10, p11, p12, p13, p14, p15, p16, p17⟩ := hP0
  have h0 := h
  obtain ⟨g1, g2, g3, g4, g5, g6, g7, g8, g9, g10⟩ := h0
  have nN : ¬ N nx := fun w => Nat.lt_irrefl _ (p7 nx w).1
  have hn : n ≤ 128 ∧ 16 ≤ n := by rcases g2 with rfl | rfl | rfl | rfl <;> decide
  have hix : i < n := by rw [hi]; exact ix_lt g2 _
  obtain ⟨q1, q2⟩ := sm_add (v := v) (tb' := tb) hP h hi h1 h2 (fun _ _ => rfl) hf (Or.inl ⟨L', nxt', c1, c2, c3, c4, c5⟩)
  have rel : ∀ a, inN N nx a → (∃ a0, N a0 ∧ va_up ks nx s a = ks a0 ∧ va_up ko nx ik a = ko a0 ∧ va_up kd nx id a = kd a0 ∧ (va_up D nx (spr (hsh s), some ik, v) a).2.2 = (D a0).2.2) ∨ (va_up ks nx s a = s ∧ va_up ko nx ik a = ik ∧ va_up kd nx id a = id ∧ (va_up D nx (spr (hsh s), some ik, v) a).2.2 = v) := by
    intro a ha
    by_cases c : a = nx
    · subst c; simp only [up_eq]; exact Or.inr ⟨trivial, trivial, trivial, trivial⟩
    · simp only [up_ne _ _ c]
      exact Or.inl ⟨a, by rcases ha with z | z; exact z; exact absurd z c, rfl, rfl, rfl, rfl⟩
  have fr : ∀ b, ¬ N b → b ≠ o → b ≠ td → b < nx → G2 b = G b := fun b b1 b2 b3 b4 => hf b (fun z => b1 z.1) b2 b3 (by omega)
  unfold hF_J39_treeifyBin
  by_cases hn64 : n ≤ 32
  · obtain ⟨nxt2, bn2', z1, z2⟩ := q1.toH hn64
    have z1' := z1
    have hn3 : n = 16 ∨ n = 32 ∨ n = 64 := by rcases g2 with w | w | w | w <;> omega
    apply w_cB
    refine w_neg (by simp) (w_some (w_aln h2 (w_neg (fun w => by have := (nI_leq (a := 64) (by omega) (by omega)).mp w; omega) ?_)))
    unfold hB_J39_treeifyBin_13 hB_J39_treeifyBin_109
    refine w_pos h1.cls (w_call (resize_at (nx := nx + 1) (by omega) z1 hn3 (fun j hj => by have := z2 j hj; omega) ⟨by omega, by omega, fun a ha => by rcases ha with w | w; have := p7 a w; omega; omega⟩) ?_)
    rintro r G3 c3' s3 ⟨rfl, rfl, rfl, ⟨nxt3, v1⟩, v2⟩
    refine w_ret ?_
    have kst : ∀ a, inN N nx a → va_up ko nx ik a < nx ∧ va_up kd nx id a < nx := fun a ha => by
      rcases rel a ha with ⟨a0, y0, -, y1, y2, -⟩ | ⟨-, y1, y2, -⟩
      · rw [y1, y2]; have := p7 a0 y0; omega
      · rw [y1, y2]; omega
    obtain ⟨tb3, w⟩ := HMr.toS (cap := cap + 1) v1 (fun a ha => ⟨(q1.2.2.2.2.2.1 a ha).1, (q1.2.2.2.2.2.1 a ha).2.1.keep (v2 _ (q1.2.2.2.2.2.2.2.1 a ha).2.2.2.1 (q1.2.2.2.2.2.2.2.1 a ha).2.2.2.2.2.1 (q1.2.2.2.2.2.2.2.1 a ha).2.2.2.2.2.2.1 (by have := kst a ha; omega)) (v2 _ (q1.2.2.2.2.2.2.2.1 a ha).2.2.2.2.1 (q1.2.2.2.2.2.2.2.1 a ha).2.2.2.2.2.2.2.1 (q1.2.2.2.2.2.2.2.1 a ha).2.2.2.2.2.2.2.2 (by have := kst a ha; omega)), (q1.2.2.2.2.2.1 a ha).2.2⟩) q1.2.2.2.2.2.2.1 (fun a ha => by
      obtain ⟨-, -, -, y1, y2, y3, y4, y5, y6⟩ := q1.2.2.2.2.2.2.2.1 a ha
      have := kst a ha
      exact ⟨y1, y2, y3, by omega, y5, by omega⟩) q2
    refine w_mono (sm_fin (D := D) (c0 := 2) (s0 := 6 + 2 * n) hP w q2 (Or.inr ⟨by omega, by omega⟩) (fun a ha => ?_) rel (fun a ha => ⟨a, Or.inl ha, up_ne _ _ (fun z => nN (z ▸ ha))⟩) ⟨nx, Or.inr rfl, up_eq _ _ _⟩ (fun b b1 b2 b3 b4 => ?_) (by omega) (by omega) (by omega)) (fun r G' c s' hq => ?_)
    · rcases ha with z | z
      · exact Or.inl z
      · exact Or.inr (by omega)
    · rw [v2 b (fun z => by rcases z with z | z; exact b1 z; omega) b2 b3 (by omega)]; exact fr b b1 b2 b3 b4
    · have e1 : 1 + (1 + 0 + c) = 2 + c := by omega
      have e2 : 6 + (2 * n + 0 + s') = 6 + 2 * n + s' := by omega
      rw [e1, e2]; exact hq
  · have hn2 : 64 ≤ n := by rcases g2 with w | w | w | w <;> omega
    have hLn : ∀ a, a ∈ L' → inN N nx a ∧ ix n (va_up D nx (spr (hsh s), some ik, v) a).1 = i := fun a ha => by
      rcases (c3 a).mp ha with z | z
      · have na : a ≠ nx := fun w => nN (w ▸ z.1)
        rw [up_ne D _ na]; exact ⟨Or.inl z.1, z.2⟩
      · rw [z, up_eq]; exact ⟨Or.inr rfl, hi.symm⟩
    have kst : ∀ a, inN N nx a → a < nx + 1 ∧ va_up ko nx ik a < nx ∧ va_up kd nx id a < nx := fun a ha => by
      refine ⟨by rcases ha with z | z; have := p7 a z; omega; omega, ?_⟩
      rcases rel a ha with ⟨a0, y0, -, y1, y2, -⟩ | ⟨-, y1, y2, -⟩
      · rw [y1, y2]; have := p7 a0 y0; omega
      · rw [y1, y2]; omega
    obtain ⟨-, -, -, -, -, k6, k7, k8, -, -⟩ := q1
    cases eL : L' with
    | nil => rw [eL] at hlen; simp at hlen
    | cons b t =>
      rw [eL] at c1
      obtain ⟨d1, d2⟩ := c1
      have hT := tbin_loop (V := V) (o := o) (td := td) (m := n) (i := i) (n0 := nx + 1) (L := L') (G0 := G2) (D := va_up D nx (spr (hsh s), some ik, v)) (ko := va_up ko nx ik) (kd := va_up kd nx id) (ks := va_up ks nx s) (nxt := nxt') (tb := tb) p1 (by omega) (by omega) g2 g4 (by omega) hix (by
          rcases h1 with ⟨-, -, x0, x1, x3, lf, e⟩ | ⟨e, -⟩
          · exact gC_at e
          · cases e) (by omega) g5 (fun a ha => ⟨(kst a (hLn a ha).1).1, (k8 a (hLn a ha).1).2.2.1, (hLn a ha).2, c5 a ha⟩) (k6.sub (fun a ha => (hLn a ha).1)) (fun a ha => by
          have := kst a (hLn a ha).1
          obtain ⟨-, -, -, y1, y2, y3, y4, y5, y6⟩ := k8 a (hLn a ha).1
          exact ⟨by omega, by omega, y4, y6⟩) (fun a b ha hb e => k7 a b (hLn a ha).1 (hLn b hb).1 e) c2 h2 t b [] V.2.2.2.2 G2 eL (by rw [eL] at c4; simp at c4; omega) d2 (fun _ _ => rfl) (fun j hj => by simp at hj)
      rw [if_pos rfl, if_pos rfl] at hT
      apply w_cB
      refine w_neg (by simp) (w_some (w_aln h2 (w_pos ((nI_leq (a := 64) (by omega) (by omega)).mpr hn2) ?_)))
      rw [ix_eq g2, ← hi]
      refine w_rdR h2 (gd_nI hix (by omega)) ?_
      rw [d1]
      refine w_neg (by simp) (w_mono hT ?_)
      rintro - G3 c3' s3 ⟨rfl, rfl, ⟨r, r1, r2, r3⟩, r4⟩
      have hl : t.length + 1 = L'.length := by rw [eL]; rfl
      rw [hl]
      -- the nodes of that bin are others now
      have nth1 : ∀ a, a ∈ List.range' (nx + 1) L'.length → nth L' (nx + 1) a ∈ L' := fun a ha => by
        rw [List.mem_range'_1] at ha
        have := nth_at (L := L') (n0 := nx + 1) (j := a - (nx + 1)) (by omega)
        rw [show nx + 1 + (a - (nx + 1)) = a by omega] at this
        rw [this]; exact List.getElem_mem _
      have nth2 : ∀ a b, a ∈ List.range' (nx + 1) L'.length → b ∈ List.range' (nx + 1) L'.length → nth L' (nx + 1) a = nth L' (nx + 1) b → a = b := fun a b ha hb e => by
        rw [List.mem_range'_1] at ha hb
        have e1 := nth_at (L := L') (n0 := nx + 1) (j := a - (nx + 1)) (by omega)
        have e2 := nth_at (L := L') (n0 := nx + 1) (j := b - (nx + 1)) (by omega)
        rw [show nx + 1 + (a - (nx + 1)) = a by omega] at e1
        rw [show nx + 1 + (b - (nx + 1)) = b by omega] at e2
        rw [e1, e2] at e
        have := (List.getElem_inj c2).mp e
        omega
      have rg : ∀ a, a ∈ List.range' (nx + 1) L'.length → nx < a ∧ a < nx + 1 + L'.length := fun a ha => by rw [List.mem_range'_1] at ha; omega
      have old : ∀ b, ¬ Bin n N D i b → b ≠ o → b ≠ td → b < nx → G3 b = G b := fun b b1 b2 b3 b4 => by rw [r4 b (by omega) b3]; exact hf b b1 b2 b3 (by omega)
      have lt : ∀ a, N a → ¬ nx < a := fun a ha => by have := p7 a ha; omega
      have fin : SMb V G3 o td n (fun a => (N a ∧ ix n (D a).1 ≠ i) ∨ a ∈ List.range' (nx + 1) L'.length) (fun a => if nx < a then va_up D nx (spr (hsh s), some ik, v) (nth L' (nx + 1) a) else D a) (fun a => if nx < a then va_up ko nx ik (nth L' (nx + 1) a) else ko a) (fun a => if nx < a then va_up kd nx id (nth L' (nx + 1) a) else kd a) (fun a => if nx < a then va_up ks nx s (nth L' (nx + 1) a) else ks a) (va_up tb i (some r)) cnt mc (cap + 1) := by
        refine h.upd (i := i) (h1.keep (r4 o (by omega) g5)) r3 (fun j hj => up_ne _ _ hj) (fun a ha hne => old a (fun z => hne z.2) (g8 a ha).2.1 (g8 a ha).2.2.1 (p7 a ha).1) (fun a hne ha => ⟨Or.inl ⟨ha, hne⟩, if_neg (lt a ha), if_neg (lt a ha)⟩) (fun a hne ha => ?_) (fun a ha => ?_) (fun a b ha hb e => ?_) (fun a ha => ?_) (fun _ => ?_)
        · rcases ha with z | z
          · exact ⟨z.1, if_neg (lt a z.1)⟩
          · refine absurd ?_ hne
            show ix n (if nx < a then _ else _ : Int32 × Option Nat × Option Nat).1 = i
            rw [if_pos (rg a z).1]; exact (hLn _ (nth1 a z)).2
        · rcases ha with z | z
          · simp only [if_neg (lt a z.1)]
            obtain ⟨-, -, -, y1, y2, y3, y4, y5, y6⟩ := g8 a z.1
            have := p7 a z.1
            exact ⟨(g6 a z.1).1, (g6 a z.1).2.1.keep (old _ (fun w => y1 w.1) y3 y4 (by omega)) (old _ (fun w => y2 w.1) y5 y6 (by omega)), (g6 a z.1).2.2⟩
          · simp only [if_pos (rg a z).1]
            have m1 := (hLn _ (nth1 a z)).1
            obtain ⟨-, -, -, y1, y2, y3, y4, y5, y6⟩ := k8 _ m1
            have := kst _ m1
            exact ⟨(k6 _ m1).1, (k6 _ m1).2.1.keep (r4 _ (by omega) y4) (r4 _ (by omega) y6), (k6 _ m1).2.2⟩
        · have mix : ∀ a b, (N a ∧ ix n (D a).1 ≠ i) → b ∈ List.range' (nx + 1) L'.length → ¬ ks a = va_up ks nx s (nth L' (nx + 1) b) := by
            intro a b ha hb e
            have an : a ≠ nx := fun w => nN (w ▸ ha.1)
            have := k7 a _ (Or.inl ha.1) (hLn _ (nth1 b hb)).1 (by rw [up_ne _ _ an]; exact e)
            have h3 := (hLn _ (nth1 b hb)).2
            rw [← this, up_ne _ _ an] at h3
            exact ha.2 h3
          rcases ha with z | z <;> rcases hb with w | w
          · simp only [if_neg (lt a z.1), if_neg (lt b w.1)] at e; exact g7 a b z.1 w.1 e
          · simp only [if_neg (lt a z.1), if_pos (rg b w).1] at e; exact absurd e (mix a b z w)
          · simp only [if_pos (rg a z).1, if_neg (lt b w.1)] at e; exact absurd e.symm (mix b a w z)
          · simp only [if_pos (rg a z).1, if_pos (rg b w).1] at e
            exact nth2 a b z w (k7 _ _ (hLn _ (nth1 a z)).1 (hLn _ (nth1 b w)).1 e)
        · have nr : ∀ x, x < nx → ¬ x ∈ List.range' (nx + 1) L'.length := fun x hx z => by have := rg x z; omega
          rcases ha with z | z
          · simp only [if_neg (lt a z.1)]
            obtain ⟨y0, y0', y0'', y1, y2, y3, y4, y5, y6⟩ := g8 a z.1
            have := p7 a z.1
            refine ⟨y0, y0', y0'', ?_, ?_, y3, y4, y5, y6⟩
            · rintro (w | w); exact y1 w.1; exact nr _ (by omega) w
            · rintro (w | w); exact y2 w.1; exact nr _ (by omega) w
          · simp only [if_pos (rg a z).1]
            have m1 := (hLn _ (nth1 a z)).1
            obtain ⟨-, -, -, y1, y2, y3, y4, y5, y6⟩ := k8 _ m1
            have := kst _ m1
            have := rg a z
            refine ⟨by omega, by omega, by omega, ?_, ?_, y3, y4, y5, y6⟩
            · rintro (w | w); exact y1 (Or.inl w.1); exact nr _ (by omega) w
            · rintro (w | w); exact y2 (Or.inl w.1); exact nr _ (by omega) w
        · refine Or.inr ⟨hn2, r, L'.length, up_eq _ _ _, c4, ?_⟩
          have eB : Bin n (fun a => (N a ∧ ix n (D a).1 ≠ i) ∨ a ∈ List.range' (nx + 1) L'.length) (fun a => if nx < a then va_up D nx (spr (hsh s), some ik, v) (nth L' (nx + 1) a) else D a) i = (· ∈ List.range' (nx + 1) L'.length) := by
            funext a
            apply propext
            constructor
            · rintro ⟨z | z, w⟩
              · simp only [if_neg (lt a z.1)] at w; exact absurd w z.2
              · exact z
            · intro z
              refine ⟨Or.inr z, ?_⟩
              simp only [if_pos (rg a z).1]
              exact (hLn _ (nth1 a z)).2
          rw [eB]
          obtain ⟨nxt9, pv9, lf, rt, pa, rd, ps, lo, hi9, u1, u2, u3, u4, u5⟩ := r2
          refine ⟨nxt9, pv9, lf, rt, pa, rd, ps, lo, hi9, u1.congrD (fun a ha => if_pos (rg a ha).1) (fun _ _ => rfl) (fun _ _ => rfl), u2, fun a b ha hb z => ?_, u4, u5⟩
          simp only [if_pos (rg a ha).1, if_pos (rg b hb).1]
          exact u3 a b ha hb z
      have hC3 : Cnt (fun a => (N a ∧ ix n (D a).1 ≠ i) ∨ a ∈ List.range' (nx + 1) L'.length) (cap + 1) := by
        obtain ⟨NL, l1, l2⟩ := q2
        refine ⟨NL.filter (fun a => !decide (a ∈ L')) ++ List.range' (nx + 1) L'.length, ?_, fun a ha => ?_⟩
        · have e1 := flt_len (fun a => decide (a ∈ L')) NL
          have e2 := nodup_sub c2 (m := NL.filter (fun a => decide (a ∈ L'))) (fun a ha => List.mem_filter.mpr ⟨l2 a (hLn a ha).1, by simpa using ha⟩)
          simp only [List.length_append, List.length_range']
          omega
        · rcases ha with z | z
          · refine List.mem_append.mpr (Or.inl (List.mem_filter.mpr ⟨l2 a (Or.inl z.1), ?_⟩))
            simp only [Bool.not_eq_true', decide_eq_false_iff_not]
            intro w
            have := (hLn a w).2
            rw [up_ne D _ (show a ≠ nx from fun y => nN (y ▸ z.1))] at this
            exact z.2 this
          · exact List.mem_append.mpr (Or.inr z)
      have back : ∀ a0, a0 ∈ L' → ∃ a, a ∈ List.range' (nx + 1) L'.length ∧ nth L' (nx + 1) a = a0 := by
        intro a0 ha
        obtain ⟨j, hj, e⟩ := List.getElem_of_mem ha
        exact ⟨nx + 1 + j, by rw [List.mem_range'_1]; omega, by rw [nth_at hj]; exact e⟩
      have en : nx + 1 + L'.length = nx + (1 + L'.length) := by omega
      rw [en]
      refine w_mono (sm_fin (D := D) (c0 := 1 + L'.length) (s0 := 6 + 11 * L'.length) (v := v) hP fin hC3 (Or.inl rfl) (fun a ha => ?_) (fun a ha => ?_) (fun a0 ha => ?_) ?_ (fun b b1 b2 b3 b4 => old b (fun z => b1 z.1) b2 b3 b4) (by omega) (by omega) (by omega)) (fun r G' c s' hq => ?_)
      · rcases ha with z | z
        · exact Or.inl z.1
        · have := rg a z; exact Or.inr (by omega)
      · rcases ha with z | z
        · simp only [if_neg (lt a z.1)]; exact Or.inl ⟨a, z.1, rfl, rfl, rfl, rfl⟩
        · simp only [if_pos (rg a z).1]; exact rel _ (hLn _ (nth1 a z)).1
      · by_cases c : ix n (D a0).1 = i
        · have a0x : a0 ≠ nx := fun y => nN (y ▸ ha)
          obtain ⟨a, b1, b2⟩ := back a0 ((c3 a0).mpr (Or.inl ⟨ha, c⟩))
          refine ⟨a, Or.inr b1, ?_⟩
          simp only [if_pos (rg a b1).1]
          rw [b2, up_ne _ _ a0x]
        · exact ⟨a0, Or.inl ⟨ha, c⟩, if_neg (lt a0 ha)⟩
      · obtain ⟨a, b1, b2⟩ := back nx ((c3 nx).mpr (Or.inr rfl))
        refine ⟨a, Or.inr b1, ?_⟩
        simp only [if_pos (rg a b1).1]
        rw [b2, up_eq]
      · have e1 : 1 + (L'.length + c) = 1 + L'.length + c := by omega
        have e2 : 6 + (11 * L'.length + s') = 6 + 11 * L'.length + s' := by omega
        rw [e1, e2]; exact hq
end M

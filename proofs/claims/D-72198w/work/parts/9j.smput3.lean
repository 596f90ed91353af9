/-! PURE 40: HashMap with Strings as keys: put of a new text, whole -/
section M
variable {V : HEn} {G : Gh} {o td n nx ik id cnt cap : Nat} {N : Nat → Prop} {D : Nat → Int32 × Option Nat × Option Nat} {ko kd : Nat → Nat} {ks : Nat → List Nat} {tb : Nat → Option Nat} {mc : Int32} {s : List Nat} {v : Option Nat}
theorem sm_134 {i : Nat} {L : List Nat} {nxt : Nat → Option Nat} (hP : PutH V G o td nx N ko kd ks cnt cap ik id s) (h : SMb V G o td n N D ko kd ks tb cnt mc cap) (hi : i = ix n (spr (hsh s))) (b1 : Chn nxt (tb i) L) (b2 : L.Nodup) (b3 : ∀ a, a ∈ L ↔ Bin n N D i a) (b4 : L.length ≤ cap) (b5 : ∀ a ∈ L, HNd G a 20 (D a).1 (D a).2.1 (D a).2.2 (nxt a)) :
    ∀ (t : List Nat) (b : Nat) (Pf : List Nat) (fu nx' : Nat), L = Pf ++ b :: t → t.length + 1 ≤ fu → nx' = nx → wH (hL_J39_putVal_134 V o fu G nx' (spr (hsh s)) (some ik) v 0 1 (some td) (some b) (nI Pf.length)) (SPut V G o td nx N D ko kd ks cnt cap ik id s v) := by
  have hP0 := hP
  obtain ⟨p1, p2, p3, p4, p5, p6, p7, p8, p9, p10, p11, p12, p13, p14, p15, p16, p17⟩ := hP0
  have h0 := h
  obtain ⟨g1, g2, g3, g4, g5, g6, g7, g8, g9, g10⟩ := h0
  have nN : ¬ N nx := fun w => Nat.lt_irrefl _ (p7 nx w).1
  have hq := keyq_at p1 g6 p8 (B := Bin n N D i) (fun a ha => ha.1)
  intro t
  induction t with
  | nil =>
    intro b Pf fu nx' hL hfu hnx
    subst hnx
    obtain ⟨fu, rfl⟩ := Nat.exists_eq_succ_of_ne_zero (show fu ≠ 0 by omega)
    have bL : b ∈ L := by rw [hL]; simp
    have bB := (b3 b).mp bL
    have bnone : nxt b = none := by rw [hL] at b1; exact b1.last
    have bx : b ≠ nx' := fun z => nN (z ▸ bB.1)
    rw [hL_J39_putVal_134]
    refine w_some (w_nN (b5 b bL) ?_)
    rw [bnone]
    refine w_pos rfl (w_call (newNode_at (nc := 20) (sp := spr (hsh s)) (k := some ik) (v := v) g1 (Or.inl ⟨rfl, rfl⟩) (fun t ht => (by cases ht)) g3 p5) ?_)
    rintro r G1 c s1 ⟨rfl, rfl, s6, t1, t2, t3, t4⟩
    have t2 : HOb G1 o 19 (some td) (nI cnt) mc (nI (n / 4 * 3)) none := t2
    refine w_nsN (t3 b _ _ _ _ bx (b5 b bL)) (g8 b bB.1).1 ?_
    intro G2 u1 u2
    have fr : ∀ x, ¬ Bin n N D i x → x ≠ o → x ≠ td → x ≠ nx' → G2 x = G x := fun x x1 x2 x3 x4 => by
      rw [u2 x (fun z => x1 (z ▸ bB)), t4 x x2 x4 (by simp)]
    have ob : o ≠ b := Ne.symm (g8 b bB.1).2.1
    have tdb : td ≠ b := Ne.symm (g8 b bB.1).2.2.1
    have h2 : G2 td = some (.inl (V.2.1 4, n, .inr (.inr (.inr (.inr tb))))) := by
      rw [u2 td tdb, t4 td (Ne.symm g5) (by omega) (by simp)]; exact g9
    obtain ⟨nxt', c1, c2, c3, c4, c5⟩ := bin_app (G2 := G2) (nx := nx') (s := s) (ik := ik) (v := v) (B := Bin n N D i) (D := D) (fun z => nN z.1) b1 b2 b3 b4 hL (t1.keep (u2 nx' (Ne.symm bx))) u1 (fun a ha hne => by
      have : a ≠ nx' := fun z => nN (z ▸ ((b3 a).mp ha).1)
      exact (t3 a _ _ _ _ this (b5 a ha)).keep (u2 a hne))
    have hl1 : L.length = Pf.length + 1 := by rw [hL]; simp
    by_cases c7 : Pf.length < 7
    · refine w_pos (nI_lt (b := 7) c7 (by decide)) ?_
      exact sm_done (s0 := s1) hP h hi (t2.keep (u2 o ob)) h2 (fun _ _ => rfl) fr (Or.inl ⟨_, nxt', c1, c2, c3, c4, c5⟩) (by omega)
    · refine w_neg (show ¬ nI Pf.length < nI 7 from nI_nlt (by omega) (by omega)) (w_pos (t2.keep (u2 o ob)).cls ?_)
      refine w_mono (sm_tree (v := v) hP h hi (t2.keep (u2 o ob)) h2 fr c1 c2 c3 c4 c5 (by simp; omega)) ?_
      rintro r G' c s' ⟨q1, q2, q3, q4, q5, q6⟩
      exact ⟨q1, q2, q3, by omega, q5, q6⟩
  | cons d t ih =>
    intro b Pf fu nx' hL hfu hnx
    subst hnx
    obtain ⟨fu, rfl⟩ := Nat.exists_eq_succ_of_ne_zero (show fu ≠ 0 by omega)
    have bL : b ∈ L := by rw [hL]; simp
    have dL : d ∈ L := by rw [hL]; simp
    have dB := (b3 d).mp dL
    have bnext : nxt b = some d := by rw [hL] at b1; exact b1.mid
    rw [hL_J39_putVal_134]
    refine w_some (w_nN (b5 b bL) ?_)
    rw [bnext]
    obtain ⟨q1, q2, q3⟩ := hq d dB
    have next : wH (hB_J39_putVal_212 V o (hL_J39_putVal_134 V o fu) G nx' (spr (hsh s)) (some ik) v 0 1 (some td) (some d) (nI Pf.length)) (SPut V G o td nx' N D ko kd ks cnt cap ik id s v) := by
      unfold hB_J39_putVal_212
      rw [nI_1]
      have := ih d (Pf ++ [b]) fu nx' (by rw [hL]; simp) (by simp at hfu; omega) rfl
      rwa [List.length_append] at this
    refine w_neg (by simp) (w_some (w_nH (b5 d dL) (w_if (fun c1 => w_nK (b5 d dL) (w_if (fun c2 => absurd (q2 c2) (p17 d dB.1)) (fun c2 => w_neg (by simp) (w_some ?_)))) (fun c1 => next))))
    rcases q3 c1 c2 nx' with ⟨z1, z2⟩ | ⟨z1, z2⟩
    · exact absurd z1 (p17 d dB.1)
    · exact w_call0 z2 (w_pos rfl next)
theorem sm_29 (hP : PutH V G o td nx N ko kd ks cnt cap ik id s) (h : SMb V G o td n N D ko kd ks tb cnt mc cap) :
    wH (hB_J39_putVal_29 V o G nx (spr (hsh s)) (some ik) v 0 1 (some td) (nI n)) (SPut V G o td nx N D ko kd ks cnt cap ik id s v) := by
  have hP0 := hP
  obtain ⟨p1, p2, p3, p4, p5, p6, p7, p8, p9, p10, p11, p12, p13, p14, p15, p16, p17⟩ := hP0
  have h0 := h
  obtain ⟨g1, g2, g3, g4, g5, g6, g7, g8, g9, g10⟩ := h0
  have nN : ¬ N nx := fun w => Nat.lt_irrefl _ (p7 nx w).1
  have hn : n ≤ 128 ∧ 16 ≤ n := by rcases g2 with rfl | rfl | rfl | rfl <;> decide
  have hix := ix_lt g2 (spr (hsh s))
  have hq := keyq_at p1 g6 p8 (B := Bin n N D (ix n (spr (hsh s)))) (fun a ha => ha.1)
  unfold hB_J39_putVal_29
  refine w_some ?_
  rw [ix_eq g2]
  refine w_rdR g9 (gd_nI hix (by omega)) ?_
  rcases g10 _ hix with ⟨L, nxt, b1, b2, b3, b4, b5⟩ | ⟨b1, r0, k, b2, b3, b4⟩
  · cases eL : L with
    | nil =>
      rw [eL] at b1 b3
      have b1 : tb (ix n (spr (hsh s))) = none := b1
      rw [b1]
      refine w_pos rfl (w_call (newNode_at (nc := 20) (sp := spr (hsh s)) (k := some ik) (v := v) g1 (Or.inl ⟨rfl, rfl⟩) (fun t ht => (by cases ht)) g3 p5) ?_)
      rintro r G1 c s1 ⟨rfl, rfl, s6, t1, t2, t3, t4⟩
      have t2 : HOb G1 o 19 (some td) (nI cnt) mc (nI (n / 4 * 3)) none := t2
      have e1 : G1 td = some (.inl (V.2.1 4, n, .inr (.inr (.inr (.inr tb))))) := by rw [t4 td (Ne.symm g5) (by omega) (by simp)]; exact g9
      refine w_pos (t1.gok _) (w_wrR e1 g4 (gd_nI hix (by omega)) ?_)
      have := sm_done (G2 := gset G1 td (.inl (V.2.1 4, n, .inr (.inr (.inr (.inr (va_up tb (ix n (spr (hsh s))) (some nx)))))))) (s0 := s1) (v := v) (tb' := va_up tb (ix n (spr (hsh s))) (some nx)) hP h rfl (t2.keep (gset_ne _ _ g5)) (gset_eq _ _ _) (fun j hj => up_ne _ _ hj) (fun x x1 x2 x3 x4 => by rw [gset_ne _ _ x3, t4 x x2 x4 (by simp)]) (Or.inl ⟨[nx], fun _ => none, ?_, by simp, fun a => ?_, by simp, fun a ha => ?_⟩) (by omega)
      · unfold hB_J39_putVal_222 at this
        rwa [if_pos rfl] at this
      · rw [up_eq]; exact ⟨rfl, rfl⟩
      · have := b3 a
        simp only [List.not_mem_nil, false_iff] at this
        simp only [List.mem_singleton, inN]
        exact ⟨Or.inr, fun z => z.resolve_left this⟩
      · simp at ha
        subst ha
        rw [up_eq]; exact t1.keep (gset_ne _ _ (by omega))
    | cons b t =>
      have b1' := b1
      rw [eL] at b1
      rw [b1.1]
      have bL : b ∈ L := by rw [eL]; simp
      have bB := (b3 b).mp bL
      obtain ⟨q1, q2, q3⟩ := hq b bB
      have next : ∀ nx', nx' = nx → wH (hB_J39_putVal_104 V o G nx' (spr (hsh s)) (some ik) v 0 1 (some td) (some b)) (SPut V G o td nx N D ko kd ks cnt cap ik id s v) := by
        intro nx' hnx
        unfold hB_J39_putVal_104
        refine w_bind (b5 b bL).gin (w_pos rfl ?_)
        have : L.length = t.length + 1 := by rw [eL]; rfl
        exact sm_134 hP h rfl b1' b2 b3 b4 b5 t b [] V.2.2.2.2 nx' eL (by omega) hnx
      refine w_neg (by simp) (w_some (w_nH (b5 b bL) (w_if (fun c1 => w_nK (b5 b bL) (w_if (fun c2 => absurd (q2 c2) (p17 b bB.1)) (fun c2 => w_neg (by simp) (w_some ?_)))) (fun c1 => next nx rfl))))
      rcases q3 c1 c2 nx with ⟨z1, z2⟩ | ⟨z1, z2⟩
      · exact absurd z1 (p17 b bB.1)
      · exact w_call0 z2 (w_pos rfl (next _ rfl))
  · rw [b2]
    have b4' := b4
    obtain ⟨nxt, pv, lf, rt, pa, rd, ps, lo, hi', u1, u2, u3, u4, u5⟩ := b4
    have hb := (u2.2.2.2.1 r0 rfl).1
    obtain ⟨q1, q2, q3⟩ := hq r0 hb
    have next : ∀ nx', nx' = nx → wH (hB_J39_putVal_104 V o G nx' (spr (hsh s)) (some ik) v 0 1 (some td) (some r0)) (SPut V G o td nx N D ko kd ks cnt cap ik id s v) := by
      intro nx' hnx
      subst hnx
      unfold hB_J39_putVal_104
      refine w_bind (v := 1) ?_ (w_neg (by decide) (w_pos (gok_at (u1 r0 hb).1 (by simp)) (w_some (w_pos (gC_at (u1 r0 hb).1) ?_))))
      · show (if [21].any (gC G r0) = true then some (1 : Int32) else _) = _
        rw [if_pos (List.any_eq_true.mpr ⟨21, by simp, gC_at (u1 r0 hb).1⟩)]
      · have go : gC G o 19 = true := by
          rcases g1 with ⟨-, -, x0, x1, x3, lf, e⟩ | ⟨e, -⟩
          · exact gC_at e
          · cases e
        refine w_call (ptv_at (v := v) (i := ix n (spr (hsh s))) p1 (by omega) b4' (g6.sub (fun a ha => ha.1)) p8 (fun z => nN z.1) (by omega) go (fun a ha => p17 a ha.1) g2 g9 g4 (fun z => (g8 td z.1).2.2.1 rfl) (by omega) b2 (fun a ha => ha.2) rfl) ?_
        rintro r G' c s' ⟨rfl, rfl, rfl, ⟨r, r1, r2, r3⟩, r4⟩
        have fr : ∀ x, ¬ Bin n N D (ix n (spr (hsh s))) x → x ≠ o → x ≠ td → x ≠ nx' → G' x = G x := fun x x1 x2 x3 x4 => r4 x (by rintro (z | z); exact x1 z; exact x4 z) x3
        have oo : G' o = G o := r4 o (by rintro (z | z); exact (g8 o z.1).2.1 rfl; omega) g5
        exact sm_done (s0 := 11) hP h rfl (g1.keep oo) r3 (fun j hj => up_ne _ _ hj) fr (Or.inr ⟨b1, r, k + 1, up_eq _ _ _, by omega, r2⟩) (by omega)
    refine w_neg (by simp) (w_some (w_uH u1 hb (w_if (fun c1 => w_uK u1 hb (w_if (fun c2 => absurd (q2 c2) (p17 r0 hb.1)) (fun c2 => w_neg (by simp) (w_some ?_)))) (fun c1 => next nx rfl))))
    rcases q3 c1 c2 nx with ⟨z1, z2⟩ | ⟨z1, z2⟩
    · exact absurd z1 (p17 r0 hb.1)
    · exact w_call0 z2 (w_pos rfl (next _ rfl))
theorem sm_put (hP : PutH V G o td nx N ko kd ks cnt cap ik id s) (h : SMb V G o td n N D ko kd ks tb cnt mc cap) : wH (hF_J39_put V G nx o (some ik) v) (SPut V G o td nx N D ko kd ks cnt cap ik id s v) := by
  have h0 := h
  obtain ⟨g1, g2, g3, g4, g5, g6, g7, g8, g9, g10⟩ := h0
  have hn : n ≤ 128 ∧ 16 ≤ n := by rcases g2 with rfl | rfl | rfl | rfl <;> decide
  have hk : Str V G ik id s True := hP.2.2.2.2.2.2.2.1
  unfold hF_J39_put
  refine w_call0 (str_spr hk) (w_pos g1.cls ?_)
  refine w_call (Q' := SPut V G o td nx N D ko kd ks cnt cap ik id s v) ?_ (fun r G' c s hq => w_ret hq)
  unfold hF_J39_putVal
  refine w_hT g1 (w_neg (by simp) (w_some (w_aln g9 (w_neg (fun z => nI_ne0 (by omega) (by omega) z) ?_))))
  exact sm_29 (nx := nx + 0) hP h
end M

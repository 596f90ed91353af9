/-! PURE 44: Plan.met, Plan.backs -/
section X
variable {V : HEn} {G : Gh} {nx lo ld p s o : Nat} {ad : List Nat} {rs : List Ru}
theorem met_loop {it : Nat} (hp : p < 64) (hs : s < 5) (hb : V.1 ≤ it) (hit : it ≠ lo ∧ it ≠ ld ∧ ∀ a ∈ ad, a ≠ it) : ∀ (rest : List Ru) (k m acc at_ : Nat) (G : Gh) (nx : Nat), rest.length + 1 ≤ m → RL V G lo ld ad rs → k + rest.length = rs.length → rs.drop k = rest → AIx G it lo (ad.map some) k → at_ + bks rest ≤ 6 → acc < 2 ^ k → wH (hL_X2_met_19 V o m G nx (nI p) (nI s) (nI acc) (nI at_) (nI k) (some it)) (fun q G' c s' => q = nI (acc + 2 ^ k * pM rest (p / 2 ^ at_) s) ∧ c = 0 ∧ s' = 0 ∧ ∀ b, b ≠ it → G' b = G b) := by
  intro rest
  induction rest with
  | nil =>
    intro k m acc at_ G nx hm hR hk hd hI hat hacc
    obtain ⟨m, rfl⟩ := Nat.exists_eq_succ_of_ne_zero (show m ≠ 0 by omega)
    obtain ⟨q1, q2, q3, q4, q5⟩ := hR
    have hI0 := hI
    obtain ⟨lr, mc, d, e1, e2⟩ := hI
    rw [hL_X2_met_19]
    refine w_some (w_pos (gC_at e1) (w_call0 (al_hasNext hI0 (by simp at hk ⊢; omega) (by simp; omega)) ?_))
    exact w_pos (if_neg (by simp at hk ⊢; omega)) (w_ret ⟨by simp [pM], rfl, rfl, fun _ _ => rfl⟩)
  | cons r t ih =>
    intro k m acc at_ G nx hm hR hk hd hI hat hacc
    obtain ⟨m, rfl⟩ := Nat.exists_eq_succ_of_ne_zero (show m ≠ 0 by omega)
    have hR0 := hR
    obtain ⟨q1, q2, q3, q4, q5⟩ := hR
    have hI0 := hI
    obtain ⟨lr, mc, d, e1, e2⟩ := hI
    have hk1 : k < rs.length := by simp at hk; omega
    have hk2 : k < ad.length := by omega
    have hdr := List.drop_eq_getElem_cons hk1
    rw [hd] at hdr
    have hrk : rs[k] = r := (List.cons.inj hdr).1.symm
    have hdt : rs.drop (k + 1) = t := (List.cons.inj hdr).2.symm
    rw [hL_X2_met_19]
    refine w_some (w_pos (gC_at e1) (w_call0 (al_hasNext hI0 (by simp; omega) (by simp; omega)) ?_))
    refine w_neg (by rw [if_pos (by simp; omega)]; decide) (w_pos (gC_at e1) (w_call (al_next q1 hI0 (by simp; omega) hb ⟨hit.1, hit.2.1⟩) ?_))
    rintro x G1 c s' ⟨rfl, rfl, rfl, t1, t2⟩
    have hne : ad[k] ≠ it := hit.2.2 _ (List.getElem_mem hk2)
    have hA : RuAt G1 ad[k] r := by
      have := q5 k hk2 hk1
      rw [hrk] at this
      exact ⟨by rw [t2 _ hne]; exact this.1, this.2⟩
    have hA0 := hA
    obtain ⟨a1, a2⟩ := hA
    obtain ⟨o1, o2, o3, o4, o5⟩ := a2
    simp only [List.getElem_map]
    have hbk : at_ + ((r.2.1 - 1) + bks t) ≤ 6 := hat
    have hlow : p / 2 ^ at_ % 2 ^ (r.2.1 - 1) < 8 := by
      have h1 : p / 2 ^ at_ % 2 ^ (r.2.1 - 1) < 2 ^ (r.2.1 - 1) := Nat.mod_lt _ (Nat.two_pow_pos _)
      have h2 : 2 ^ (r.2.1 - 1) ≤ 2 ^ 3 := Nat.pow_le_pow_right (by decide) (by omega)
      omega
    have hR1 : RL V G1 lo ld ad rs := hR0.keep (t2 _ (Ne.symm hit.1)) (t2 _ (Ne.symm hit.2.1)) (fun a ha => t2 a (hit.2.2 a ha))
    have hk3 : k < 3 := by omega
    refine w_pos (gok_at a1 (by simp)) (w_some (w_xI a1 rfl rfl (w_pos (gC_at a1) ?_)))
    rw [i_sub r.2.1 (by omega) at_ (by omega) p hp (by omega)]
    refine w_call0 (rmet_at hA0 hlow hs) ?_
    have go : ∀ (acc' nx : Nat), acc' < 2 ^ (k + 1) → acc' = acc + 2 ^ k * (if rM r (p / 2 ^ at_ % 2 ^ (r.2.1 - 1)) s then 1 else 0) → wH (hL_X2_met_19 V o m G1 nx (nI p) (nI s) (nI acc') (nI (at_ + (r.2.1 - 1))) (nI (k + 1)) (some it)) (fun q G' c s' => q = nI (acc + 2 ^ k * pM (r :: t) (p / 2 ^ at_) s) ∧ c = 0 ∧ s' = 0 ∧ ∀ b, b ≠ it → G' b = G b) := by
      intro acc' nx h1 h2
      refine w_mono (ih (k + 1) m acc' (at_ + (r.2.1 - 1)) G1 nx (by simp at hm; omega) hR1 (by simp at hk; omega) hdt t1 (by omega) h1) ?_
      rintro q G2 c s' ⟨rfl, rfl, rfl, w⟩
      refine ⟨?_, rfl, rfl, fun b hb => (w b hb).trans (t2 b hb)⟩
      congr 1
      show _ = acc + 2 ^ k * ((if _ then 1 else 0) + 2 * pM t _ s)
      rw [pw_le (n := r.2.1) (by omega), h2, Nat.pow_succ, Nat.mul_add, Nat.mul_assoc, Nat.add_assoc]
    have e1' : (1 : Int32) = nI 1 := rfl
    unfold hB_X2_met_75
    have p2 : 2 ^ (k + 1) = 2 ^ k + 2 ^ k := by rw [Nat.pow_succ]; omega
    by_cases cm : rM r (p / 2 ^ at_ % 2 ^ (r.2.1 - 1)) s = true
    · refine w_neg (by rw [if_pos cm]; decide) (w_some (w_xI a1 rfl rfl ?_))
      rw [i_orm k hk3 acc hacc, e1', nI_sub (by omega), nI_add, nI_add]
      exact w_mono (go (acc + 2 ^ k) _ (by omega) (by rw [if_pos cm, Nat.mul_one])) (fun _ _ _ _ z => ⟨z.1, by omega, by omega, z.2.2.2⟩)
    · refine w_pos (by rw [if_neg cm]) (w_some (w_xI a1 rfl rfl ?_))
      rw [i_or0, e1', nI_sub (by omega), nI_add, nI_add]
      exact w_mono (go acc _ (by omega) (by rw [if_neg cm, Nat.mul_zero, Nat.add_zero])) (fun _ _ _ _ z => ⟨z.1, by omega, by omega, z.2.2.2⟩)
theorem met_at {po : Nat} {x1 x2 x3 x4 : Value} (hV : 200 ≤ V.2.2.2.2) (hp : p < 64) (hs : s < 5) (hP : G po = some (.inr (2, [va_rf (some lo), x1, x2, x3, x4]))) (hR : RL V G lo ld ad rs) (hx : lo < nx ∧ ld < nx ∧ ∀ a ∈ ad, a < nx) (hb : V.1 ≤ nx) : wH (hF_X2_met V G nx po (nI p) (nI s)) (fun q G' c s' => q = nI (pM rs p s) ∧ c = 1 ∧ s' = 4 ∧ ∀ b, b ≠ nx → G' b = G b) := by
  have hR0 := hR
  obtain ⟨q1, q2, q3, q4, q5⟩ := hR
  have q1' := q1
  obtain ⟨m0, n0, f0, h1, -⟩ := q1'
  unfold hF_X2_met
  refine w_xR hP rfl rfl (w_some (w_pos (gC_at h1) (w_call (al_iterator q1 hb hx.1) ?_)))
  rintro r G1 c s' ⟨rfl, rfl, rfl, t1, t2⟩
  refine w_mono (met_loop (o := po) (p := p) (s := s) (it := nx) (lo := lo) (ld := ld) (ad := ad) (rs := rs) hp hs hb ⟨by omega, by omega, fun a ha => by have := hx.2.2 a ha; omega⟩ rs 0 V.2.2.2.2 0 0 G1 _ (by omega) (hR0.keep (t2 _ (by omega)) (t2 _ (by omega)) (fun a ha => t2 a (by have := hx.2.2 a ha; omega))) (by omega) rfl t1 (by omega) (by decide)) ?_
  rintro q G2 c s' ⟨rfl, rfl, rfl, w⟩
  exact ⟨by simp, rfl, rfl, fun b hb => (w b hb).trans (t2 b hb)⟩
theorem bks_loop {it : Nat} (hb : V.1 ≤ it) (hit : it ≠ lo ∧ it ≠ ld ∧ ∀ a ∈ ad, a ≠ it) : ∀ (rest : List Ru) (k m acc : Nat) (G : Gh) (nx : Nat), rest.length + 1 ≤ m → RL V G lo ld ad rs → k + rest.length = rs.length → rs.drop k = rest → AIx G it lo (ad.map some) k → wH (hL_X2_backs_12 V o m G nx (nI acc) (some it)) (fun q G' c s' => q = nI (acc + bks rest) ∧ c = 0 ∧ s' = 0 ∧ ∀ b, b ≠ it → G' b = G b) := by
  intro rest
  induction rest with
  | nil =>
    intro k m acc G nx hm hR hk hd hI
    obtain ⟨m, rfl⟩ := Nat.exists_eq_succ_of_ne_zero (show m ≠ 0 by omega)
    obtain ⟨q1, q2, q3, q4, q5⟩ := hR
    have hI0 := hI
    obtain ⟨lr, mc, d, e1, e2⟩ := hI
    rw [hL_X2_backs_12]
    refine w_some (w_pos (gC_at e1) (w_call0 (al_hasNext hI0 (by simp at hk ⊢; omega) (by simp; omega)) ?_))
    exact w_pos (if_neg (by simp at hk ⊢; omega)) (w_ret ⟨by simp [bks], rfl, rfl, fun _ _ => rfl⟩)
  | cons r t ih =>
    intro k m acc G nx hm hR hk hd hI
    obtain ⟨m, rfl⟩ := Nat.exists_eq_succ_of_ne_zero (show m ≠ 0 by omega)
    have hR0 := hR
    obtain ⟨q1, q2, q3, q4, q5⟩ := hR
    have hI0 := hI
    obtain ⟨lr, mc, d, e1, e2⟩ := hI
    have hk1 : k < rs.length := by simp at hk; omega
    have hk2 : k < ad.length := by omega
    have hdr := List.drop_eq_getElem_cons hk1
    rw [hd] at hdr
    have hrk : rs[k] = r := (List.cons.inj hdr).1.symm
    have hdt : rs.drop (k + 1) = t := (List.cons.inj hdr).2.symm
    rw [hL_X2_backs_12]
    refine w_some (w_pos (gC_at e1) (w_call0 (al_hasNext hI0 (by simp; omega) (by simp; omega)) ?_))
    refine w_neg (by rw [if_pos (by simp; omega)]; decide) (w_pos (gC_at e1) (w_call (al_next q1 hI0 (by simp; omega) hb ⟨hit.1, hit.2.1⟩) ?_))
    rintro x G1 c s' ⟨rfl, rfl, rfl, t1, t2⟩
    have hne : ad[k] ≠ it := hit.2.2 _ (List.getElem_mem hk2)
    have hA : RuAt G1 ad[k] r := by
      have := q5 k hk2 hk1
      rw [hrk] at this
      exact ⟨by rw [t2 _ hne]; exact this.1, this.2⟩
    obtain ⟨a1, o1, o2, o3, o4, o5⟩ := hA
    simp only [List.getElem_map]
    have e1' : (1 : Int32) = nI 1 := rfl
    refine w_pos (gok_at a1 (by simp)) (w_some (w_xI a1 rfl rfl ?_))
    rw [e1', nI_sub (by omega), nI_add]
    refine w_mono (ih (k + 1) m _ G1 _ (by simp at hm; omega) (hR0.keep (t2 _ (Ne.symm hit.1)) (t2 _ (Ne.symm hit.2.1)) (fun a ha => t2 a (hit.2.2 a ha))) (by simp at hk; omega) hdt t1) ?_
    rintro q G2 c s' ⟨rfl, rfl, rfl, w⟩
    refine ⟨?_, rfl, rfl, fun b hb => (w b hb).trans (t2 b hb)⟩
    congr 1
    show _ = acc + ((r.2.1 - 1) + bks t)
    omega
theorem bks_at {po : Nat} {x1 x2 x3 x4 : Value} (hV : 200 ≤ V.2.2.2.2) (hP : G po = some (.inr (2, [va_rf (some lo), x1, x2, x3, x4]))) (hR : RL V G lo ld ad rs) (hx : lo < nx ∧ ld < nx ∧ ∀ a ∈ ad, a < nx) (hb : V.1 ≤ nx) : wH (hF_X2_backs V G nx po) (fun q G' c s' => q = nI (bks rs) ∧ c = 1 ∧ s' = 4 ∧ ∀ b, b ≠ nx → G' b = G b) := by
  have hR0 := hR
  obtain ⟨q1, q2, q3, q4, q5⟩ := hR
  have q1' := q1
  obtain ⟨m0, n0, f0, h1, -⟩ := q1'
  unfold hF_X2_backs
  refine w_xR hP rfl rfl (w_some (w_pos (gC_at h1) (w_call (al_iterator q1 hb hx.1) ?_)))
  rintro r G1 c s' ⟨rfl, rfl, rfl, t1, t2⟩
  refine w_mono (bks_loop (o := po) (it := nx) (lo := lo) (ld := ld) (ad := ad) (rs := rs) hb ⟨by omega, by omega, fun a ha => by have := hx.2.2 a ha; omega⟩ rs 0 V.2.2.2.2 0 G1 _ (by omega) (hR0.keep (t2 _ (by omega)) (t2 _ (by omega)) (fun a ha => t2 a (by have := hx.2.2 a ha; omega))) (by omega) rfl t1) ?_
  rintro q G2 c s' ⟨rfl, rfl, rfl, w⟩
  exact ⟨by simp, rfl, rfl, fun b hb => (w b hb).trans (t2 b hb)⟩
end X

/-! PURE 84: RunWatch.odds -/
theorem cmp0 {x : Int64} : lg_cmp x 0 = 0 ↔ x = 0 := by
  unfold lg_cmp
  by_cases c : x > 0
  · rw [if_pos c]
    refine ⟨fun z => absurd z (by decide), fun z => ?_⟩
    subst z
    exact absurd c (by decide)
  · rw [if_neg c]
    by_cases c2 : x = 0
    · rw [if_pos c2]; exact ⟨fun _ => c2, fun _ => rfl⟩
    · rw [if_neg c2]; exact ⟨fun z => absurd z (by decide), fun z => absurd z c2⟩
theorem lN0 {a : Nat} (h : a < 2 ^ 63) : lN a = 0 ↔ a = 0 := pk_lEQ (b := 0) h (by decide)
theorem common_at {V : HEn} {G : Gh} : ∀ (t : Nat) (m nx a b : Nat), b < 2 ^ t → 2 * t + 1 ≤ m → a < 2 ^ 63 → t < 60 → hF_X0_common V m G nx (lN a) (lN b) = some (lN (Nat.gcd a b), G, 0, 0) := by
  have one : ∀ (m nx a : Nat), hF_X0_common V (m + 1) G nx (lN a) (lN 0) = some (lN a, G, 0, 0) := fun m nx a => by
    rw [hF_X0_common, if_pos (show lg_cmp (lN 0) 0 = 0 from cmp0.mpr rfl)]; rfl
  have stp : ∀ (m nx a b : Nat), 0 < b → b < 2 ^ 63 → a < 2 ^ 63 → hF_X0_common V (m + 1) G nx (lN a) (lN b) = cB (hF_X0_common V m G nx (lN b) (lN (a % b))) fun y G1 c => some (y, G1, 0, 0) := fun m nx a b hb hb2 ha => by
    have h0 : ¬ lN b = 0 := fun z => by have := (lN0 hb2).mp z; omega
    rw [hF_X0_common, if_neg (fun z => h0 (cmp0.mp z)), if_pos h0, pk_lRem ha hb hb2]
    rfl
  intro t
  induction t with
  | zero =>
    intro m nx a b hb hm ha _
    obtain ⟨m, rfl⟩ := Nat.exists_eq_succ_of_ne_zero (show m ≠ 0 by omega)
    have : b = 0 := by omega
    subst this
    rw [one, Nat.gcd_zero_right]
  | succ t ih =>
    intro m nx a b hb hm ha ht
    obtain ⟨m, rfl⟩ := Nat.exists_eq_succ_of_ne_zero (show m ≠ 0 by omega)
    obtain ⟨m, rfl⟩ := Nat.exists_eq_succ_of_ne_zero (show m ≠ 0 by omega)
    have h63 : 2 ^ (t + 1) ≤ 2 ^ 60 := Nat.pow_le_pow_right (by decide) (by omega)
    have hb63 : b < 2 ^ 63 := by omega
    by_cases c : b = 0
    · subst c; rw [one, Nat.gcd_zero_right]
    · have hbp : 0 < b := by omega
      have e1 : Nat.gcd a b = Nat.gcd b (a % b) := by rw [Nat.gcd_comm a b, Nat.gcd_rec b a, Nat.gcd_comm]
      rw [show m.succ.succ = (m + 1) + 1 from rfl, stp (m + 1) nx a b hbp hb63 ha, e1]
      by_cases c2 : a % b = 0
      · rw [c2, one, Nat.gcd_zero_right]; rfl
      · have hr : 0 < a % b := by omega
        have hrl := Nat.mod_lt a hbp
        have e2 : Nat.gcd b (a % b) = Nat.gcd (a % b) (b % (a % b)) := by rw [Nat.gcd_comm b, Nat.gcd_rec (a % b) b, Nat.gcd_comm]
        have hh := gcd_half hbp hr
        rw [stp m nx b (a % b) hr (by omega) hb63, e2, ih m nx (a % b) (b % (a % b)) (by rw [Nat.pow_succ] at hb; omega) (by omega) (by omega) (by omega)]
        rfl
abbrev chN (p : Pn) (s : Nat) : Nat := p.2.1.getD s 0
abbrev wyP (p : Pn) (j0 k : Nat) : Nat → Nat := wy (nS p) (stT p.1) (chN p) j0 k
def spOdds (S : Sp) (a b : Int32) : Int32 := match iR a 9, iR b 2 with
  | some k, some w => nI ((if w = 0 then al (stT S.1.1.1) (chN S.1.1) k (stN S) else 10 ^ k) / Nat.gcd (al (stT S.1.1.1) (chN S.1.1) k (stN S)) (10 ^ k))
  | _, _ => -1
section X
variable {V : HEn} {N0 xo mo pk wa na : Nat} {p : Pn}
theorem MR.ch {G : Gh} {R : Type} {Q : R → Gh → Nat → Nat → Prop} {s : Nat} {k : Int32 → HO R} (h : MR V G N0 xo mo p pk) (hs : s < 5) (hk : wH (k (nI (chN p s))) Q) : wH ((xR G xo fl_RunWatch_now).bind fun r43 => (r43).bind fun a45 => (xR G a45 fl_RunWatch_Desk_plan).bind fun r47 => (r47).bind fun a49 => (xR G a49 fl_RunWatch_Plan_chances).bind fun r51 => (r51).bind fun a53 => (rdI G (V.2.1 0) a53 (nI s)).bind k) Q := by
  obtain ⟨d0, da, dm, ia, ro, st, tx, po, to, lo, ch, f, F, h1, h2, h3, h4, h5, h6, -⟩ := h
  refine w_xR h1 rfl rfl (w_some (w_xR h3 rfl rfl (w_some (w_xR h4 rfl rfl (w_some (w_rdI h5 (gd_nI hs (by omega)) ?_))))))
  rw [h6 s hs]; exact hk
theorem MR.b0 {G : Gh} (h : MR V G N0 xo mo p pk) : V.1 ≤ N0 := by
  obtain ⟨d0, da, dm, ia, ro, st, tx, po, to, lo, ch, f, F, h1, h2, h3, h4, h5, h6, h7, h8, h9, h10, h11, h12, h13, h14⟩ := h
  exact h13
theorem odds_sign {k44 : Gh → Nat → Int32 → Int32 → Option Nat → Int64 → Int32 → HO Int32} {k59 : Gh → Nat → Int32 → Int32 → Option Nat → Int64 → Int32 → Option Nat → Int32 → HO Int32} {l1 l2 l6 : Int32} {l4 : Int64} {j : Nat} {w : Nat → Nat} {f : Nat → Int64} (hok : RsOk p.1) (hch : ∀ s, s < 5 → chN p s < 100) (hwa : N0 ≤ wa) (hna : N0 ≤ na) (hne : wa ≠ na) (hj : j < nS p) (hf : ∀ l, l < nS p → f l = lN (w l)) :
    ∀ (i s m : Nat) (G : Gh) (nx : Nat) (g : Nat → Int64) (Q : Int32 → Gh → Nat → Nat → Prop), s + i = 5 → i + 1 ≤ m → MR V G N0 xo mo p pk → G wa = some (.inl (V.2.1 2, nS p, .inr (.inl f))) → G na = some (.inl (V.2.1 2, nS p, .inr (.inl g))) → (∀ x, x < nS p → g x = lN (sumN (fun j => sumN (fun s => cb (stT p.1) (chN p) w j s x) 5) j + sumN (fun s => cb (stT p.1) (chN p) w j s x) s)) →
    (∀ (G' : Gh) (g' : Nat → Int64), MR V G' N0 xo mo p pk → G' wa = some (.inl (V.2.1 2, nS p, .inr (.inl f))) → G' na = some (.inl (V.2.1 2, nS p, .inr (.inl g'))) → (∀ x, x < nS p → g' x = lN (sumN (fun j => sumN (fun s => cb (stT p.1) (chN p) w j s x) 5) (j + 1))) → (∀ b, b ≠ na → G' b = G b) → wH (k59 G' nx l1 l2 (some wa) l4 l6 (some na) (nI (j + 1))) Q) →
    wH (hL_X0_odds_69 V xo k44 k59 m G nx l1 l2 (some wa) l4 l6 (some na) (nI j) (nI s)) Q := by
  have h36 : nS p ≤ 36 := (sts_ok hok).2.2.2.1
  intro i
  induction i with
  | zero =>
    intro s m G nx g Q hs hm hM hG hN hg K
    obtain ⟨m, rfl⟩ := Nat.exists_eq_succ_of_ne_zero (show m ≠ 0 by omega)
    have : s = 5 := by omega
    subst this
    rw [hL_X0_odds_69]
    refine w_pos (Int32.le_refl _) ?_
    rw [nI_1]
    exact K G g hM hG hN (fun x hx => by rw [hg x hx]; rfl) (fun _ _ => rfl)
  | succ i ih =>
    intro s m G nx g Q hs hm hM hG hN hg K
    obtain ⟨m, rfl⟩ := Nat.exists_eq_succ_of_ne_zero (show m ≠ 0 by omega)
    obtain ⟨F, hA⟩ := hM.at_
    have hb0 := hM.b0
    rw [hL_X0_odds_69]
    refine w_neg (fun z => by have := (nI_leq (a := 5) (b := s) (by omega) (by omega)).mp z; omega) (w_pos hM.gC (w_call0 hM.machine (w_some (w_pos hA.gC (w_call0 (hA.step hj (show s < 5 by omega)) ?_)))))
    unfold hB_X0_odds_122
    rw [nI_1]
    have es1 : ∀ x, sumN (fun s => cb (stT p.1) (chN p) w j s x) (s + 1) = sumN (fun s => cb (stT p.1) (chN p) w j s x) s + cb (stT p.1) (chN p) w j s x := fun _ => rfl
    cases es : stT p.1 j s with
    | none =>
      refine w_pos rfl (ih (s + 1) m G nx g Q (by omega) (by omega) hM hG hN (fun x hx => ?_) K)
      rw [es1, hg x hx]
      have : cb (stT p.1) (chN p) w j s x = 0 := by unfold cb; rw [es, if_neg (by simp)]
      rw [this, Nat.add_zero]
    | some y =>
      have hy := stT_ok p j s y hj (by omega) es
      refine w_neg (fun z => by have := (tell_iff (fun d hd => by cases hd; omega)).mp z; cases this) (w_some (w_rdJ hN (gd_nI hy (by omega)) (w_some (w_rdJ hG (gd_nI hj (by omega)) (hM.ch (show s < 5 by omega) ?_)))))
      refine w_wrJ hN (by omega) (gd_nI hy (by omega)) ?_
      have hM1 := hM.low (G' := gset G na (.inl (V.2.1 2, nS p, .inr (.inl (vp_updL g y (g y + f j * (nI (chN p s)).toInt64)))))) (fun b hb => gset_ne _ _ (by omega))
      refine ih (s + 1) m _ nx _ Q (by omega) (by omega) hM1 (by rw [gset_ne _ _ hne]; exact hG) (gset_eq _ _ _) (fun x hx => ?_) (fun G' g' k1 k2 k3 k4 k5 => K G' g' k1 k2 k3 k4 (fun b hb => by rw [k5 b hb, gset_ne _ _ hb]))
      rw [es1]
      by_cases cx : x = y
      · subst cx
        have : cb (stT p.1) (chN p) w j s x = w j * chN p s := by unfold cb; rw [es, if_pos rfl]
        rw [pk_uLs, hg x hx, hf j hj, nI_l (by have := hch s (by omega); omega), lN_mul, lN_add, this, Nat.add_assoc]
      · have : cb (stT p.1) (chN p) w j s x = 0 := by unfold cb; rw [es, if_neg (fun z => cx (Option.some.inj z).symm)]
        rw [pk_uLn cx, hg x hx, this, Nat.add_zero]
theorem odds_states {k44 : Gh → Nat → Int32 → Int32 → Option Nat → Int64 → Int32 → HO Int32} {l1 l2 l6 : Int32} {l4 : Int64} {w : Nat → Nat} {f : Nat → Int64} (hV : 1200 ≤ V.2.2.2.2) (hok : RsOk p.1) (hch : ∀ s, s < 5 → chN p s < 100) (hwa : N0 ≤ wa) (hna : N0 ≤ na) (hne : wa ≠ na) (hf : ∀ l, l < nS p → f l = lN (w l)) :
    ∀ (i j m : Nat) (G : Gh) (nx : Nat) (g : Nat → Int64) (Q : Int32 → Gh → Nat → Nat → Prop), j + i = nS p → i + 1 ≤ m → MR V G N0 xo mo p pk → G wa = some (.inl (V.2.1 2, nS p, .inr (.inl f))) → G na = some (.inl (V.2.1 2, nS p, .inr (.inl g))) → (∀ x, x < nS p → g x = lN (sumN (fun j => sumN (fun s => cb (stT p.1) (chN p) w j s x) 5) j)) →
    (∀ (G' : Gh) (g' : Nat → Int64), MR V G' N0 xo mo p pk → G' na = some (.inl (V.2.1 2, nS p, .inr (.inl g'))) → (∀ x, x < nS p → g' x = lN (wN (nS p) (stT p.1) (chN p) w x)) → (∀ b, b ≠ na → G' b = G b) → wH (k44 G' nx l1 l2 (some na) (l4 * 10) (l6 + 1)) Q) →
    wH (hL_X0_odds_59 V xo k44 m G nx l1 l2 (some wa) l4 l6 (some na) (nI j)) Q := by
  have h36 : nS p ≤ 36 := (sts_ok hok).2.2.2.1
  intro i
  induction i with
  | zero =>
    intro j m G nx g Q hj hm hM hG hN hg K
    obtain ⟨m, rfl⟩ := Nat.exists_eq_succ_of_ne_zero (show m ≠ 0 by omega)
    have : j = nS p := by omega
    subst this
    rw [hL_X0_odds_59]
    exact w_some (w_aln hG (w_pos (Int32.le_refl _) (K G g hM hN hg (fun _ _ => rfl))))
  | succ i ih =>
    intro j m G nx g Q hj hm hM hG hN hg K
    obtain ⟨m, rfl⟩ := Nat.exists_eq_succ_of_ne_zero (show m ≠ 0 by omega)
    rw [hL_X0_odds_59]
    refine w_some (w_aln hG (w_neg (fun z => by have := (nI_leq (by omega) (by omega)).mp z; omega) ?_))
    refine odds_sign (w := w) (f := f) (j := j) hok hch hwa hna hne (by omega) hf 5 0 V.2.2.2.2 G nx g Q rfl (by omega) hM hG hN (fun x hx => by rw [hg x hx]; rfl) ?_
    intro G' g' k1 k2 k3 k4 k5
    exact ih (j + 1) m G' nx g' Q (by omega) (by omega) k1 k2 k3 k4 (fun G2 g2 y1 y2 y3 y4 => K G2 g2 y1 y2 y3 (fun b hb => by rw [y4 b hb, k5 b hb]))
theorem odds_sum {l2 : Int32} {all : Nat} {f : Nat → Int64} {w : Nat → Nat} {G : Gh} {nx v : Nat} (hn : nS p ≤ 36) (hall : all ≤ 10 ^ 8) (hall0 : 0 < all) (hG : G wa = some (.inl (V.2.1 2, nS p, .inr (.inl f)))) (hf : ∀ l, l < nS p → f l = lN (w l)) (hw : sumN w (nS p) ≤ all) (hv : l2 = nI v) (hv2 : v < 2) : ∀ (i j m : Nat), j + i = nS p → i + 1 ≤ m → wH (hL_X0_odds_166 V xo m G nx l2 (lN all) (lN (all - sumN w j)) (some wa) (nI (nS p)) (nI j)) (fun r G' c s => r = nI ((if v = 0 then all - sumN w (nS p) else all) / Nat.gcd (all - sumN w (nS p)) all) ∧ G' = G ∧ c = 0 ∧ s = 0) := by
  intro i
  induction i with
  | zero =>
    intro j m hj hm
    obtain ⟨m, rfl⟩ := Nat.exists_eq_succ_of_ne_zero (show m ≠ 0 by omega)
    have : j = nS p := by omega
    subst this
    rw [hL_X0_odds_166]
    have hgp : 0 < Nat.gcd (all - sumN w (nS p)) all := Nat.gcd_pos_of_pos_right _ hall0
    have hgl : Nat.gcd (all - sumN w (nS p)) all ≤ all := Nat.gcd_le_right _ hall0
    refine w_pos (Int32.le_refl _) (w_call0 (common_at 27 100 nx (all - sumN w (nS p)) all (by omega) (by omega) (by omega) (by omega)) ?_)
    unfold hB_X0_odds_213
    have hg0 : ¬ lN (Nat.gcd (all - sumN w (nS p)) all) = 0 := fun z => by have := (lN0 (by omega)).mp z; omega
    by_cases c : v = 0
    · refine w_pos (by rw [hv, c]; rfl) (w_pos hg0 (w_ret ⟨?_, rfl, rfl, rfl⟩))
      rw [if_pos c, pk_lDiv (by omega) hgp (by omega), lN_i]
    · refine w_neg (fun z => by rw [hv] at z; exact c ((i_zero (by omega)).mp z)) (w_pos hg0 (w_ret ⟨?_, rfl, rfl, rfl⟩))
      rw [if_neg c, pk_lDiv (by omega) hgp (by omega), lN_i]
  | succ i ih =>
    intro j m hj hm
    obtain ⟨m, rfl⟩ := Nat.exists_eq_succ_of_ne_zero (show m ≠ 0 by omega)
    rw [hL_X0_odds_166]
    refine w_neg (fun z => by have := (nI_leq (by omega) (by omega)).mp z; omega) (w_some (w_rdJ hG (gd_nI (show j < nS p by omega) (by omega)) ?_))
    have hs : sumN w (j + 1) ≤ sumN w (nS p) := sumN_mono (by omega)
    have hs1 : sumN w (j + 1) = sumN w j + w j := rfl
    rw [hf j (by omega), lN_sub (by omega), nI_1, show all - sumN w j - w j = all - sumN w (j + 1) by omega]
    exact ih (j + 1) m (by omega) (by omega)
theorem odds_loop {nn v j0 : Nat} (hV : 1200 ≤ V.2.2.2.2) (hok : RsOk p.1) (hch : ∀ s, s < 5 → chN p s < 100) (hsum : sumN (chN p) 5 = 10) (hj0 : j0 < nS p) (hn8 : nn ≤ 8) (hv2 : v < 2) : ∀ (i k m : Nat) (G : Gh) (nx wa : Nat) (f : Nat → Int64), k + i = nn → i + 1 ≤ m → MR V G N0 xo mo p pk → N0 ≤ wa → wa < nx → G wa = some (.inl (V.2.1 2, nS p, .inr (.inl f))) → (∀ l, l < nS p → f l = lN (wyP p j0 k l)) → wH (hL_X0_odds_44 V xo m G nx (nI nn) (nI v) (some wa) (lN (10 ^ k)) (nI k)) (fun r G' c s => r = nI ((if v = 0 then al (stT p.1) (chN p) nn j0 else 10 ^ nn) / Nat.gcd (al (stT p.1) (chN p) nn j0) (10 ^ nn)) ∧ c ≤ i ∧ s ≤ 36 * i ∧ ∀ b, b < N0 → G' b = G b) := by
  have h36 : nS p ≤ 36 := (sts_ok hok).2.2.2.1
  have hlt := stT_ok p
  intro i
  induction i with
  | zero =>
    intro k m G nx wa f hk hm hM hwa hwx hG hf
    obtain ⟨m, rfl⟩ := Nat.exists_eq_succ_of_ne_zero (show m ≠ 0 by omega)
    have : k = nn := by omega
    subst this
    rw [hL_X0_odds_44]
    refine w_pos (Int32.le_refl _) (w_some (w_aln hG ?_))
    have hp : 10 ^ k ≤ 10 ^ 8 := Nat.pow_le_pow_right (by decide) hn8
    have hw : sumN (wyP p j0 k) (nS p) ≤ 10 ^ k := by rw [wy_sum hlt hj0]; exact nl_le hsum k j0
    have hal : 10 ^ k - sumN (wyP p j0 k) (nS p) = al (stT p.1) (chN p) k j0 := by
      rw [wy_sum hlt hj0]
      have := al_nl (stp := stT p.1) hsum k j0
      omega
    have := odds_sum (V := V) (xo := xo) (p := p) (nx := nx) (w := wyP p j0 k) (l2 := nI v) h36 hp (Nat.pow_pos (by decide)) hG hf hw rfl hv2 (nS p) 0 V.2.2.2.2 (by omega) (by omega)
    rw [hal] at this
    refine w_mono this ?_
    rintro r G' c s ⟨q1, rfl, rfl, rfl⟩
    exact ⟨q1, by omega, by omega, fun _ _ => rfl⟩
  | succ i ih =>
    intro k m G nx wa f hk hm hM hwa hwx hG hf
    obtain ⟨m, rfl⟩ := Nat.exists_eq_succ_of_ne_zero (show m ≠ 0 by omega)
    rw [hL_X0_odds_44]
    refine w_neg (fun z => by have := (nI_leq (by omega) (by omega)).mp z; omega) (w_some (w_aln hG (w_gn (n := nS p) (by omega) (w_tick ?_))))
    have hM1 := hM.low (G' := gset G nx (.inl (V.2.1 2, nS p, .inr (.inl (fun _ => (0 : Int64)))))) (fun b hb => gset_ne _ _ (by omega))
    refine odds_states (w := wyP p j0 k) (f := f) (wa := wa) (na := nx) hV hok hch hwa (by omega) (by omega) hf (nS p) 0 V.2.2.2.2 _ (nx + 1) (fun _ => 0) _ (by omega) (by omega) hM1 (by rw [gset_ne _ _ (by omega)]; exact hG) (gset_eq _ _ _) (fun x hx => rfl) ?_
    intro G' g' k1 k2 k3 k4
    have e10 : lN (10 ^ k) * 10 = lN (10 ^ (k + 1)) := by
      have := lN_mul (10 ^ k) 10
      rw [Nat.pow_succ]; exact this
    rw [e10, nI_1]
    refine w_mono (ih (k + 1) m G' (nx + 1) nx g' (by omega) (by omega) k1 (by omega) (by omega) k2 k3) ?_
    rintro r G2 c s ⟨q1, q2, q3, q4⟩
    exact ⟨q1, by omega, by omega, fun b hb => by rw [q4 b hb, k4 b (by omega)]; exact gset_ne _ _ (by omega)⟩
theorem ch_lt {q : Pn} (h : PnOk q) : ∀ s, s < 5 → chN q s < 100 := fun s hs => by
  have h2 := sum5 h.2.1
  rw [h.2.2.1] at h2
  have : chN q s ≤ sumN (chN q) 5 := by
    have h3 : sumN (chN q) (s + 1) ≤ sumN (chN q) 5 := sumN_mono (by omega)
    have h4 : sumN (chN q) (s + 1) = sumN (chN q) s + chN q s := rfl
    omega
  have h5 : sumN (chN q) 5 = 10 := h2
  omega
theorem ct_odds {a b : Int32} (hV : 1200 ≤ V.2.2.2.2) : Ct V xo (fun G nx => hF_X0_odds V G nx xo a b) (fun S => (spOdds S a b, S)) := by
  rintro G nx S ul h0
  have h00 := h0
  obtain ⟨tg, d0, da, ia, ro, rd, tx, pl, i0, i1, rws, hW, hR, e1, e2, e3, hu⟩ := h0
  obtain ⟨c1, c2, c3⟩ := hW.2.2.1
  have hok : DkOk S.1 := (hW.2.2.2.2.2.2.2.2.1 (d0, S.1) (by simp [dsk])).2
  have h36 : nS S.1.1 ≤ 36 := (sts_ok hok.1.1).2.2.2.1
  have hgl := gLast_ok (l := S.1.2) hok.1 (st0_ok hok.1) (fun y hy => (hok.2.2.2 y hy).2)
  obtain ⟨j, j1, j2⟩ := stO_some hok.1.1 hgl.1
  have ej : stN S = j := by unfold stN; rw [j1]; rfl
  have hsum : sumN (chN S.1.1) 5 = 10 := by rw [← hok.1.2.2.1]; exact sum5 hok.1.2.1
  show wH (hF_X0_odds V G nx xo a b) (fun r G' c s => r = spOdds S a b ∧ ∃ ul', Wd V G' (nx + c) xo S ul' ∧ Cost c s ul.length ul'.length)
  unfold hF_X0_odds hB_X0_odds_19 spOdds
  refine w_call0 (isIn_at (n := 9) (by decide)) ?_
  cases ea : iR a 9 with
  | none => exact w_pos rfl (w_ret ⟨rfl, Ct.same h00 rfl rfl⟩)
  | some k =>
    obtain ⟨rfl, hk⟩ := iR_some (by decide) ea
    refine w_neg (isS1 k) (w_call0 (isIn_at (n := 2) (by decide)) ?_)
    cases eb : iR b 2 with
    | none => exact w_pos rfl (w_ret ⟨rfl, Ct.same h00 rfl rfl⟩)
    | some v =>
      obtain ⟨rfl, hv⟩ := iR_some (by decide) eb
      refine w_neg (isS1 v) (w_pos (gC_at c1) (w_call (mach_d hV h00) ?_))
      rintro r G1 n1 s1 ⟨mo, ul', rfl, u1, u2, u3, u4, u5⟩
      obtain ⟨F, hM⟩ := u2.at_
      have bb := u2.b0
      refine w_some (w_pos hM.gC (w_call0 hM.many (w_gn (n := nS S.1.1) (by omega) (w_tick ?_))))
      have hM2 := u2.low (G' := gset G1 (nx + n1) (.inl (V.2.1 2, nS S.1.1, .inr (.inl (fun _ => (0 : Int64)))))) (fun b hb => gset_ne _ _ (by omega))
      refine w_pos hM2.gC (w_call0 (hM2.stateNow hV hgl.1 j1) (w_wrJ (gset_eq _ _ _) (by omega) (gd_nI j2 (by omega)) ?_))
      have hM3 := u2.low (G' := gset (gset G1 (nx + n1) (.inl (V.2.1 2, nS S.1.1, .inr (.inl (fun _ => (0 : Int64)))))) (nx + n1) (.inl (V.2.1 2, nS S.1.1, .inr (.inl (vp_updL (fun _ => (0 : Int64)) j 1))))) (fun b hb => by rw [gset_ne _ _ (by omega), gset_ne _ _ (by omega)])
      refine w_mono (odds_loop (N0 := nx + n1) (nn := k) (v := v) (j0 := j) hV hok.1.1 (ch_lt hok.1) hsum j2 (by omega) hv k 0 V.2.2.2.2 _ (nx + n1 + 1) (nx + n1) (vp_updL (fun _ => (0 : Int64)) j 1) (by omega) (by omega) hM3 (Nat.le_refl _) (by omega) (gset_eq _ _ _) (fun l hl => ?_)) ?_
      · show vp_updL (fun _ => (0 : Int64)) j 1 l = lN (if l = j then 1 else 0)
        by_cases c : l = j
        · subst c; rw [pk_uLs, if_pos rfl]; rfl
        · rw [pk_uLn c, if_neg c]; rfl
      · rintro r G4 n4 s4 ⟨q1, q2, q3, q4⟩
        refine ⟨by rw [q1, ej], ul', u1.low (by omega) (fun b hb => by rw [q4 b hb, gset_ne _ _ (by omega), gset_ne _ _ (by omega)]), ?_⟩
        exact mCost (c2 := 1 + n4) (s2 := nS S.1.1 + s4) u5 (by omega) (by omega)
end X

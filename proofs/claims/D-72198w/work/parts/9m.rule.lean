/-! PURE 43: rules; Plan.behind, Plan.met, Plan.backs -/
/-- a rule: m, n, set -/
abbrev Ru := Nat × Nat × Nat
def RuOk (r : Ru) : Prop := 1 ≤ r.1 ∧ r.1 ≤ r.2.1 ∧ r.2.1 ≤ 4 ∧ 1 ≤ r.2.2 ∧ r.2.2 ≤ 31
def pop (b : Nat) : Nat := b % 2 + b / 2 % 2 + b / 4 % 2 + b / 8 % 2
def rB (r : Ru) (b s : Nat) : Nat := (2 * b + r.2.2 / 2 ^ s % 2) % 2 ^ r.2.1
def rM (r : Ru) (b s : Nat) : Bool := decide (r.1 ≤ pop (rB r b s))
def rK (r : Ru) (b : Nat) : Nat := b % 2 ^ (r.2.1 - 1)
def pB : List Ru → Nat → Nat → Nat
  | [], _, _ => 0
  | r :: t, p, s => rK r (rB r (p % 2 ^ (r.2.1 - 1)) s) + 2 ^ (r.2.1 - 1) * pB t (p / 2 ^ (r.2.1 - 1)) s
def pM : List Ru → Nat → Nat → Nat
  | [], _, _ => 0
  | r :: t, p, s => (if rM r (p % 2 ^ (r.2.1 - 1)) s then 1 else 0) + 2 * pM t (p / 2 ^ (r.2.1 - 1)) s
def bks : List Ru → Nat
  | [] => 0
  | r :: t => (r.2.1 - 1) + bks t
theorem pB_lt : ∀ (rs : List Ru) (p s : Nat), pB rs p s < 2 ^ bks rs
  | [], _, _ => by show 0 < 1; decide
  | r :: t, p, s => by
    have h := pB_lt t (p / 2 ^ (r.2.1 - 1)) s
    have h2 : rK r (rB r (p % 2 ^ (r.2.1 - 1)) s) < 2 ^ (r.2.1 - 1) := Nat.mod_lt _ (Nat.two_pow_pos _)
    show rK r _ + 2 ^ (r.2.1 - 1) * _ < 2 ^ ((r.2.1 - 1) + bks t)
    rw [Nat.pow_add]
    have : 2 ^ (r.2.1 - 1) * (pB t (p / 2 ^ (r.2.1 - 1)) s + 1) ≤ 2 ^ (r.2.1 - 1) * 2 ^ bks t := Nat.mul_le_mul_left _ h
    rw [Nat.mul_add, Nat.mul_one] at this
    omega
theorem pM_lt : ∀ (rs : List Ru) (p s : Nat), pM rs p s < 2 ^ rs.length
  | [], _, _ => by show 0 < 1; decide
  | r :: t, p, s => by
    have h := pM_lt t (p / 2 ^ (r.2.1 - 1)) s
    show (if _ then 1 else 0) + 2 * _ < 2 ^ (t.length + 1)
    rw [Nat.pow_succ]
    split <;> omega
/-! the same by ints -/
theorem i_rB : ∀ n, n < 5 → ∀ s, s < 5 → ∀ set, set < 32 → ∀ b, b < 8 → (((nI b <<< ((1 : Int32) &&& 31)) ||| ((nI set >>> (nI s &&& 31)) &&& 1)) &&& (((1 : Int32) <<< (nI n &&& 31)) - 1)) = nI ((2 * b + set / 2 ^ s % 2) % 2 ^ n) := by decide +kernel
theorem i_rK : ∀ n, n < 5 → ∀ b, b < 16 → 1 ≤ n → (nI b &&& (((1 : Int32) <<< ((nI n - 1) &&& 31)) - 1)) = nI (b % 2 ^ (n - 1)) := by decide +kernel
theorem i_sub : ∀ n, n < 5 → ∀ at_, at_ < 7 → ∀ p, p < 64 → 1 ≤ n → ((nI p >>> (nI at_ &&& 31)) &&& (((1 : Int32) <<< ((nI n - 1) &&& 31)) - 1)) = nI (p / 2 ^ at_ % 2 ^ (n - 1)) := by decide +kernel
theorem i_or : ∀ at_, at_ < 7 → ∀ y, y < 8 → ∀ l, l < 2 ^ at_ → (nI l ||| (nI y <<< (nI at_ &&& 31))) = nI (l + 2 ^ at_ * y) := by decide +kernel
theorem i_orm : ∀ k, k < 3 → ∀ l, l < 2 ^ k → (nI l ||| ((1 : Int32) <<< (nI k &&& 31))) = nI (l + 2 ^ k) := by decide +kernel
theorem i_or0 (x : Int32) : x ||| 0 = x := by
  apply Int32.toBitVec.inj
  show x.toBitVec ||| 0#32 = _
  simp
theorem i_pop : ∀ b, b < 16 → ∀ (V : HEn) (G : Gh) (nx : Nat), hF_J23_bitCount V G nx (nI b) = some (nI (pop b), G, 0, 0) := by
  have key : ∀ b, b < 16 → (let a0 := nI b; let y1 := a0 - (((a0.toUInt32 >>> ((1 : Int32).toUInt32 &&& Int32.toUInt32 31)).toInt32) &&& 1431655765); let y2 := (y1 &&& 858993459) + (((y1.toUInt32 >>> ((2 : Int32).toUInt32 &&& Int32.toUInt32 31)).toInt32) &&& 858993459); let y3 := (y2 + ((y2.toUInt32 >>> ((4 : Int32).toUInt32 &&& Int32.toUInt32 31)).toInt32)) &&& 252645135; let y4 := y3 + ((y3.toUInt32 >>> ((8 : Int32).toUInt32 &&& Int32.toUInt32 31)).toInt32); let y5 := y4 + ((y4.toUInt32 >>> ((16 : Int32).toUInt32 &&& Int32.toUInt32 31)).toInt32); y5 &&& 63) = nI (pop b) := by decide +kernel
  intro b hb V G nx
  have := key b hb
  simp only at this
  unfold hF_J23_bitCount nmv
  exact congrArg (fun x => some (x, G, 0, 0)) this
theorem pop_lt : ∀ b, pop b ≤ 4 := fun b => by unfold pop; omega
/-- a rule in the heap -/
def RuAt (G : Gh) (a : Nat) (r : Ru) : Prop := G a = some (.inr (5, [.int (nI r.1), .int (nI r.2.1), .int (nI r.2.2)])) ∧ RuOk r
section X
variable {V : HEn} {G : Gh} {nx a b s : Nat} {r : Ru}
theorem rB_lt (h : RuOk r) : rB r b s < 16 := by
  obtain ⟨h1, h2, h3, h4, h5⟩ := h
  have : rB r b s < 2 ^ r.2.1 := Nat.mod_lt _ (Nat.two_pow_pos _)
  have : 2 ^ r.2.1 ≤ 2 ^ 4 := Nat.pow_le_pow_right (by decide) h3
  omega
theorem rbeh_at (h : RuAt G a r) (hb : b < 8) (hs : s < 5) : hF_X6_behind V G nx a (nI b) (nI s) = some (nI (rB r b s), G, 0, 0) := by
  obtain ⟨h1, h2, h3, h4, h5, h6⟩ := h
  unfold hF_X6_behind
  rw [xI_at h1 rfl rfl]
  show ((xI G a fl_RunWatch_Rule_n).bind _) = _
  rw [xI_at h1 rfl rfl]
  show some (_, G, 0, 0) = _
  rw [i_rB r.2.1 (by omega) s hs r.2.2 (by omega) b hb]
  rfl
theorem rkep_at (h : RuAt G a r) (hb : b < 16) : hF_X6_kept V G nx a (nI b) = some (nI (rK r b), G, 0, 0) := by
  obtain ⟨h1, h2, h3, h4, h5, h6⟩ := h
  unfold hF_X6_kept
  rw [xI_at h1 rfl rfl]
  show some (_, G, 0, 0) = _
  rw [i_rK r.2.1 (by omega) b hb (by omega)]
  rfl
theorem rismet_at (h : RuAt G a r) (hb : b < 16) : hF_X6_isMet V G nx a (nI b) = some (if r.1 ≤ pop b then 1 else 0, G, 0, 0) := by
  obtain ⟨h1, h2, h3, h4, h5, h6⟩ := h
  have hp := pop_lt b
  have hw : wH (hF_X6_isMet V G nx a (nI b)) (fun q G' c s => q = (if r.1 ≤ pop b then 1 else 0) ∧ G' = G ∧ c = 0 ∧ s = 0) := by
    unfold hF_X6_isMet hB_X6_isMet_16
    refine w_call0 (i_pop b hb _ _ _) (w_xI h1 rfl rfl ?_)
    by_cases c : r.1 ≤ pop b
    · exact w_neg (nI_nlt c (by omega)) (w_pos (by decide) (w_ret ⟨by rw [if_pos c], rfl, rfl, rfl⟩))
    · exact w_pos (nI_lt (by omega) (by omega)) (w_pos (by decide) (w_ret ⟨by rw [if_neg c], rfl, rfl, rfl⟩))
  obtain ⟨q, G', c, s, e, rfl, rfl, rfl, rfl⟩ := hw
  exact e
theorem rmet_at (h : RuAt G a r) (hb : b < 8) (hs : s < 5) : hF_X9_isMetBy V G nx a (nI b) (nI s) = some (if rM r b s then 1 else 0, G, 0, 0) := by
  have h0 := h
  obtain ⟨h1, h2⟩ := h
  have hw : wH (hF_X9_isMetBy V G nx a (nI b) (nI s)) (fun q G' c s' => q = (if rM r b s then 1 else 0) ∧ G' = G ∧ c = 0 ∧ s' = 0) := by
    unfold hF_X9_isMetBy
    refine w_pos (gC_at h1) (w_call0 (rbeh_at h0 hb hs) (w_pos (gC_at h1) (w_call0 (rismet_at h0 (rB_lt h2)) ?_)))
    unfold rM
    by_cases c : r.1 ≤ pop (rB r b s)
    · rw [if_pos c]; exact w_pos (by decide) (w_ret ⟨by simp [c], rfl, rfl, rfl⟩)
    · rw [if_neg c]; exact w_pos (by decide) (w_ret ⟨by simp [c], rfl, rfl, rfl⟩)
  obtain ⟨q, G', c, s', e, rfl, rfl, rfl, rfl⟩ := hw
  exact e
end X
/-- the rules of a plan: an ArrayList at lo, its row at ld, the rules at ad -/
def RL (V : HEn) (G : Gh) (lo ld : Nat) (ad : List Nat) (rs : List Ru) : Prop := AL V G lo ld (ad.map some) ∧ ad.length = rs.length ∧ rs.length ≤ 3 ∧ bks rs ≤ 6 ∧ ∀ j (h : j < ad.length) (h' : j < rs.length), RuAt G ad[j] rs[j]
section X
variable {V : HEn} {G : Gh} {nx lo ld p s o : Nat} {ad : List Nat} {rs : List Ru}
theorem RL.keep {G' : Gh} (h : RL V G lo ld ad rs) (h1 : G' lo = G lo) (h2 : G' ld = G ld) (h3 : ∀ a ∈ ad, G' a = G a) : RL V G' lo ld ad rs := by
  obtain ⟨q1, q2, q3, q4, q5⟩ := h
  refine ⟨q1.keep h1 h2, q2, q3, q4, fun j hj hj' => ⟨?_, (q5 j hj hj').2⟩⟩
  rw [h3 _ (List.getElem_mem hj)]; exact (q5 j hj hj').1
theorem pw_le {n at_ : Nat} (h1 : at_ + (n - 1) ≤ 6) : p / 2 ^ at_ / 2 ^ (n - 1) = p / 2 ^ (at_ + (n - 1)) := by
  rw [Nat.div_div_eq_div_mul, Nat.pow_add]
theorem beh_loop {it : Nat} (hp : p < 64) (hs : s < 5) (hb : V.1 ≤ it) (hit : it ≠ lo ∧ it ≠ ld ∧ ∀ a ∈ ad, a ≠ it) : ∀ (rest : List Ru) (k m acc at_ : Nat) (G : Gh) (nx : Nat), rest.length + 1 ≤ m → RL V G lo ld ad rs → k + rest.length = rs.length → rs.drop k = rest → AIx G it lo (ad.map some) k → at_ + bks rest ≤ 6 → acc < 2 ^ at_ → wH (hL_X2_behind_16 V o m G nx (nI p) (nI s) (nI acc) (nI at_) (some it)) (fun q G' c s' => q = nI (acc + 2 ^ at_ * pB rest (p / 2 ^ at_) s) ∧ c = 0 ∧ s' = 0 ∧ ∀ b, b ≠ it → G' b = G b) := by
  intro rest
  induction rest with
  | nil =>
    intro k m acc at_ G nx hm hR hk hd hI hat hacc
    obtain ⟨m, rfl⟩ := Nat.exists_eq_succ_of_ne_zero (show m ≠ 0 by omega)
    obtain ⟨q1, q2, q3, q4, q5⟩ := hR
    have hI0 := hI
    obtain ⟨lr, mc, d, e1, e2⟩ := hI
    rw [hL_X2_behind_16]
    refine w_some (w_pos (gC_at e1) (w_call0 (al_hasNext hI0 (by simp at hk ⊢; omega) (by simp; omega)) ?_))
    exact w_pos (if_neg (by simp at hk ⊢; omega)) (w_ret ⟨by simp [pB], rfl, rfl, fun _ _ => rfl⟩)
  | cons r t ih =>
    intro k m acc at_ G nx hm hR hk hd hI hat hacc
    obtain ⟨m, rfl⟩ := Nat.exists_eq_succ_of_ne_zero (show m ≠ 0 by omega)
    have hR0 := hR
    obtain ⟨q1, q2, q3, q4, q5⟩ := hR
    have hI0 := hI
    obtain ⟨lr, mc, d, e1, e2⟩ := hI
    have hk1 : k < rs.length := by simp at hk; omega
    have hk2 : k < ad.length := by omega
    have hrk : rs[k] = r := by
      have := List.drop_eq_getElem_cons hk1
      rw [hd] at this
      exact (List.cons.inj this).1.symm
    have hdt : rs.drop (k + 1) = t := by
      have := List.drop_eq_getElem_cons hk1
      rw [hd] at this
      exact (List.cons.inj this).2.symm
    rw [hL_X2_behind_16]
    refine w_some (w_pos (gC_at e1) (w_call0 (al_hasNext hI0 (by simp; omega) (by simp; omega)) ?_))
    refine w_neg (by rw [if_pos (by simp; omega)]; decide) (w_pos (gC_at e1) (w_call (al_next q1 hI0 (by simp; omega) hb ⟨hit.1, hit.2.1⟩) ?_))
    rintro x G1 c s' ⟨rfl, rfl, rfl, t1, t2⟩
    have hne : ad[k] ≠ it := hit.2.2 _ (List.getElem_mem hk2)
    have hA : RuAt G1 ad[k] r := by
      have := q5 k hk2 hk1
      rw [hrk] at this
      exact ⟨by rw [t2 _ hne]; exact this.1, this.2⟩
    have hA0 := hA
    obtain ⟨a1, a2⟩ := hA
    obtain ⟨o1, o2, o3, o4, o5⟩ := a2
    simp only [List.getElem_map]
    have hbk : at_ + ((r.2.1 - 1) + bks t) ≤ 6 := hat
    have hlow : p / 2 ^ at_ % 2 ^ (r.2.1 - 1) < 8 := by
      have h1 : p / 2 ^ at_ % 2 ^ (r.2.1 - 1) < 2 ^ (r.2.1 - 1) := Nat.mod_lt _ (Nat.two_pow_pos _)
      have h2 : 2 ^ (r.2.1 - 1) ≤ 2 ^ 3 := Nat.pow_le_pow_right (by decide) (by omega)
      omega
    refine w_pos (gok_at a1 (by simp)) (w_some (w_xI a1 rfl rfl (w_pos (gC_at a1) ?_)))
    rw [i_sub r.2.1 (by omega) at_ (by omega) p hp (by omega)]
    refine w_call0 (rbeh_at hA0 hlow hs) (w_pos (gC_at a1) (w_call0 (rkep_at hA0 (rB_lt ⟨o1, o2, o3, o4, o5⟩)) (w_xI a1 rfl rfl ?_)))
    have hkl : rK r (rB r (p / 2 ^ at_ % 2 ^ (r.2.1 - 1)) s) < 2 ^ (r.2.1 - 1) := Nat.mod_lt _ (Nat.two_pow_pos _)
    have hk8 : rK r (rB r (p / 2 ^ at_ % 2 ^ (r.2.1 - 1)) s) < 8 := by
      have h2 : 2 ^ (r.2.1 - 1) ≤ 2 ^ 3 := Nat.pow_le_pow_right (by decide) (by omega)
      omega
    rw [i_or at_ (by omega) _ hk8 acc hacc, show (1 : Int32) = nI 1 from rfl, nI_sub (by omega), nI_add]
    refine w_mono (ih (k + 1) m _ (at_ + (r.2.1 - 1)) G1 _ (by simp at hm; omega) (hR0.keep (t2 _ (Ne.symm hit.1)) (t2 _ (Ne.symm hit.2.1)) (fun a ha => t2 a (hit.2.2 a ha))) (by simp at hk; omega) hdt t1 (by omega) ?_) ?_
    · rw [Nat.pow_add]
      have : 2 ^ at_ * (rK r (rB r (p / 2 ^ at_ % 2 ^ (r.2.1 - 1)) s) + 1) ≤ 2 ^ at_ * 2 ^ (r.2.1 - 1) := Nat.mul_le_mul_left _ hkl
      rw [Nat.mul_add, Nat.mul_one] at this
      omega
    · rintro q G2 c s' ⟨rfl, rfl, rfl, w⟩
      refine ⟨?_, rfl, rfl, fun b hb => (w b hb).trans (t2 b hb)⟩
      congr 1
      show _ = acc + 2 ^ at_ * (rK r _ + 2 ^ (r.2.1 - 1) * pB t _ s)
      rw [pw_le (n := r.2.1) (by omega), Nat.pow_add, Nat.mul_add, Nat.mul_assoc, Nat.add_assoc]
theorem beh_at {po lp : Nat} {x1 x2 x3 x4 : Value} (hV : 200 ≤ V.2.2.2.2) (hp : p < 64) (hs : s < 5) (hP : G po = some (.inr (2, [va_rf (some lo), x1, x2, x3, x4]))) (hR : RL V G lo ld ad rs) (hx : lo < nx ∧ ld < nx ∧ ∀ a ∈ ad, a < nx) (hb : V.1 ≤ nx) : wH (hF_X2_behind V G nx po (nI p) (nI s)) (fun q G' c s' => q = nI (pB rs p s) ∧ c = 1 ∧ s' = 4 ∧ ∀ b, b ≠ nx → G' b = G b) := by
  have hR0 := hR
  obtain ⟨q1, q2, q3, q4, q5⟩ := hR
  have q1' := q1
  obtain ⟨m0, n0, f0, h1, -⟩ := q1'
  unfold hF_X2_behind
  refine w_xR hP rfl rfl (w_some (w_pos (gC_at h1) (w_call (al_iterator q1 hb hx.1) ?_)))
  rintro r G1 c s' ⟨rfl, rfl, rfl, t1, t2⟩
  refine w_mono (beh_loop (o := po) (p := p) (s := s) (it := nx) (lo := lo) (ld := ld) (ad := ad) (rs := rs) hp hs hb ⟨by omega, by omega, fun a ha => by have := hx.2.2 a ha; omega⟩ rs 0 V.2.2.2.2 0 0 G1 _ (by omega) (hR0.keep (t2 _ (by omega)) (t2 _ (by omega)) (fun a ha => t2 a (by have := hx.2.2 a ha; omega))) (by omega) rfl t1 (by omega) (by decide)) ?_
  rintro q G2 c s' ⟨rfl, rfl, rfl, w⟩
  exact ⟨by simp, rfl, rfl, fun b hb => (w b hb).trans (t2 b hb)⟩
end X

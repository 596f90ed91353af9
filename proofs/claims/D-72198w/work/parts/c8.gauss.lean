/-! PURE 85: equations left over by a prime: plain; longs -/
def PP : Nat := 1000003
def pwF : Nat → Nat → Nat → Nat → Nat
  | 0, its, _, _ => its
  | f + 1, its, by_, k => if k = 0 then its else pwF f (if k % 2 = 1 then its * by_ % PP else its) (by_ * by_ % PP) (k / 2)
def inv (v : Nat) : Nat := pwF 21 1 v 1000001
abbrev Mx := Nat → Nat → Nat
def swR (M : Mx) (a b : Nat) : Mx := fun i => if i = a then M b else if i = b then M a else M i
def scR (M : Mx) (k by_ : Nat) : Mx := fun i j => if i = k then M i j * by_ % PP else M i j
def elR (M : Mx) (k : Nat) : Mx := fun i j => if i = k then M i j else (M i j + (PP - M i k) * M k j) % PP
/-- the first row from k on whose place k isn't 0 -/
def fnd (M : Mx) (n k : Nat) : Option Nat := (List.range' k (n - k)).find? (fun i => decide (M i k ≠ 0))
/-- one place -/
def gsK (n : Nat) (M : Mx) (k : Nat) : Option Mx := match fnd M n k with
  | some a => some (elR (scR (swR M a k) k (inv (M a k))) k)
  | none => none
def gsL (n : Nat) : Nat → Nat → Mx → Option Mx
  | 0, _, M => some M
  | f + 1, k, M => match gsK n M k with
    | some M' => gsL n f (k + 1) M'
    | none => none
/-- a row of the equations -/
def eqR (n : Nat) (stp : Nat → Nat → Option Nat) (ch : Nat → Nat) (j : Nat) : Nat → Nat → Nat
  | 0 => fun c => if c = j ∨ c = n then 10 else 0
  | s + 1 => fun c => if stp j s = some c then (eqR n stp ch j s c + PP - ch s) % PP else eqR n stp ch j s c
def eqM (n : Nat) (stp : Nat → Nat → Option Nat) (ch : Nat → Nat) : Mx := fun j => eqR n stp ch j 5
def spMean (S : Sp) : Int32 := match gsL (nS S.1.1) (nS S.1.1) 0 (eqM (nS S.1.1) (stT S.1.1.1) (chN S.1.1)) with
  | some M => nI (M (stN S) (nS S.1.1))
  | none => -9
theorem eqR_lt {n : Nat} {stp : Nat → Nat → Option Nat} {ch : Nat → Nat} {j c : Nat} : ∀ s, eqR n stp ch j s c < PP
  | 0 => by show (if _ then 10 else 0) < 1000003; split <;> omega
  | s + 1 => by
    have := eqR_lt (n := n) (stp := stp) (ch := ch) (j := j) (c := c) s
    show (if _ then _ % PP else _) < PP
    split
    · exact Nat.mod_lt _ (by decide)
    · exact this
theorem fnd_some {M : Mx} {n k a : Nat} (h : fnd M n k = some a) : k ≤ a ∧ a < n ∧ M a k ≠ 0 ∧ ∀ i, k ≤ i → i < a → M i k = 0 := by
  unfold fnd at h
  rw [List.find?_eq_some_iff_getElem] at h
  obtain ⟨h1, i, hi, h2, h3⟩ := h
  rw [List.getElem_range', Nat.one_mul] at h2
  rw [List.length_range'] at hi
  refine ⟨by omega, by omega, of_decide_eq_true h1, fun i' h4 h5 => ?_⟩
  have := h3 (i' - k) (by omega)
  rw [List.getElem_range', Nat.one_mul, show k + (i' - k) = i' by omega] at this
  simpa using this
theorem fnd_none {M : Mx} {n k : Nat} (h : fnd M n k = none) : ∀ i, k ≤ i → i < n → M i k = 0 := by
  intro i h1 h2
  have := List.find?_eq_none.mp h i (by rw [List.mem_range'_1]; omega)
  simpa using this
theorem fnd_mk {M : Mx} {n k a : Nat} (h1 : k ≤ a) (h2 : a < n) (h3 : M a k ≠ 0) (h4 : ∀ i, k ≤ i → i < a → M i k = 0) : fnd M n k = some a := by
  cases e : fnd M n k with
  | none => exact absurd (fnd_none e a h1 h2) h3
  | some b =>
    obtain ⟨b1, b2, b3, b4⟩ := fnd_some e
    by_cases c : a < b
    · exact absurd (b4 a h1 c) h3
    · by_cases c2 : b < a
      · exact absurd (h4 b b1 c2) b3
      · rw [show b = a by omega]
/-! longs -/
theorem sub64 {a b : Int64} (h1 : -2 ^ 62 ≤ a.toInt - b.toInt) (h2 : a.toInt - b.toInt < 2 ^ 62) : (a - b).toInt = a.toInt - b.toInt := by
  rw [Int64.toInt_sub]
  exact Int.bmod_eq_of_le (by omega) (by omega)
theorem add64 {a b : Int64} (h1 : -2 ^ 62 ≤ a.toInt + b.toInt) (h2 : a.toInt + b.toInt < 2 ^ 62) : (a + b).toInt = a.toInt + b.toInt := by
  rw [Int64.toInt_add]
  exact Int.bmod_eq_of_le (by omega) (by omega)
theorem mul64 {a b : Int64} (h1 : -2 ^ 62 ≤ a.toInt * b.toInt) (h2 : a.toInt * b.toInt < 2 ^ 62) : (a * b).toInt = a.toInt * b.toInt := by
  rw [Int64.toInt_mul]
  exact Int.bmod_eq_of_le (by omega) (by omega)
theorem rem_gen {D Pl : Int64} {P : Nat} (hP : Pl = lN P) (h0 : 1 < P) (hP2 : P < 2 ^ 30) (hD1 : -2 ^ 60 < D.toInt) (hD2 : D.toInt < 2 ^ 60) : ((D - D / Pl * Pl) + Pl) - ((D - D / Pl * Pl) + Pl) / Pl * Pl = lN (D.toInt % (P : Int)).toNat := by
  have eP : Pl.toInt = P := by rw [hP]; exact pk_lT (by omega)
  have hne : Pl ≠ -1 := fun e => by
    rw [e] at eP
    have : (-1 : Int64).toInt = -1 := by decide
    omega
  have hq : (D / Pl).toInt = D.toInt.tdiv P := by rw [Int64.toInt_div_of_ne_right _ _ hne, eP]
  have hb := Int.tmod_add_tdiv_mul D.toInt P
  have hm1 : D.toInt.tmod P < P := Int.tmod_lt_of_pos _ (by omega)
  have hm2 : -(P : Int) < D.toInt.tmod P := Int.lt_tmod_of_pos _ (by omega)
  have hmul : (D / Pl * Pl).toInt = D.toInt.tdiv P * P := by
    rw [mul64] <;> rw [hq, eP] <;> omega
  have hR : (D - D / Pl * Pl).toInt = D.toInt.tmod P := by
    rw [sub64] <;> rw [hmul] <;> omega
  have hA : ((D - D / Pl * Pl) + Pl).toInt = D.toInt.tmod P + P := by
    rw [add64] <;> rw [hR, eP] <;> omega
  have hN : (D - D / Pl * Pl) + Pl = lN (D.toInt.tmod P + P).toNat := by
    apply Int64.toInt_inj.mp
    rw [hA, pk_lT (by omega)]
    omega
  rw [hN, hP, pk_lRem (by omega) (by omega) (by omega)]
  have hem : (((D.toInt.tmod P + P).toNat % P : Nat) : Int) = D.toInt % (P : Int) := by
    rw [Int.natCast_emod, Int.toNat_of_nonneg (by omega)]
    have : D.toInt.tmod P + P = D.toInt + (P : Int) * (1 - D.toInt.tdiv P) := by
      rw [Int.mul_sub, Int.mul_one, Int.mul_comm (P : Int) (D.toInt.tdiv P)]
      omega
    rw [this, Int.add_mul_emod_self_left]
  have hfin : (D.toInt.tmod P + P).toNat % P = (D.toInt % (P : Int)).toNat := by
    rw [← hem]; rfl
  rw [hfin]
theorem rem_nat {x t y P : Nat} (ht : t ≤ P) : ((x : Int) - ((t * y : Nat) : Int)) % (P : Int) = (((x + (P - t) * y) % P : Nat) : Int) := by
  rw [Int.natCast_emod]
  have h3 : (P - t) * y + t * y = P * y := by rw [← Nat.add_mul, Nat.sub_add_cancel ht]
  have : ((x + (P - t) * y : Nat) : Int) = (x : Int) - ((t * y : Nat) : Int) + (P : Int) * (y : Int) := by
    have h4 : (((P - t) * y + t * y : Nat) : Int) = ((P * y : Nat) : Int) := by rw [h3]
    rw [Int.natCast_add, Int.natCast_mul P y] at h4
    rw [Int.natCast_add]
    omega
  rw [this, Int.add_mul_emod_self_left]
theorem rem_neg {x t y : Nat} (hx : x < PP) (ht : t < PP) (hy : y < PP) : ((((lN x - (lN t * lN y)) - (lN x - (lN t * lN y)) / 1000003 * 1000003) + 1000003) - (((lN x - (lN t * lN y)) - (lN x - (lN t * lN y)) / 1000003 * 1000003) + 1000003) / 1000003 * 1000003) = lN ((x + (PP - t) * y) % PP) := by
  have hP : PP < 2 ^ 20 := by decide
  have hP0 : 1 < PP := by decide
  have hPl : (1000003 : Int64) = lN PP := rfl
  generalize PP = P at hx ht hy hP hP0 hPl ⊢
  generalize (1000003 : Int64) = Pl at hPl ⊢
  have hty : t * y ≤ 2 ^ 20 * 2 ^ 20 := Nat.mul_le_mul (by omega) (by omega)
  have hD : (lN x - (lN t * lN y)).toInt = (x : Int) - ((t * y : Nat) : Int) := by
    rw [lN_mul, sub64] <;> rw [pk_lT (by omega), pk_lT (by omega)] <;> omega
  generalize lN x - (lN t * lN y) = D at hD ⊢
  rw [rem_gen hPl hP0 (by omega) (by omega) (by omega), hD, rem_nat (by omega)]
  rfl
theorem mulrem {x y : Nat} (hx : x < PP) (hy : y < PP) : (lN x * lN y) - (lN x * lN y) / 1000003 * 1000003 = lN (x * y % PP) := by
  have hP : PP < 2 ^ 20 := by decide
  have hP0 : 1 < PP := by decide
  have hPl : (1000003 : Int64) = lN PP := rfl
  rw [hPl]
  generalize PP = P at hx hy hP hP0 ⊢
  have hty : x * y ≤ 2 ^ 20 * 2 ^ 20 := Nat.mul_le_mul (by omega) (by omega)
  rw [lN_mul]
  exact pk_lRem (by omega) (by omega) (by omega)
theorem addrem {x c : Nat} (hx : x < PP) (hc : c < 100) : ((lN x + 1000003) - (nI c).toInt64) - ((lN x + 1000003) - (nI c).toInt64) / 1000003 * 1000003 = lN ((x + PP - c) % PP) := by
  have hP : PP < 2 ^ 20 := by decide
  have hP0 : 100 < PP := by decide
  have hPl : (1000003 : Int64) = lN PP := rfl
  rw [hPl]
  generalize PP = P at hx hP hP0 ⊢
  have e : (lN x + lN P) - (nI c).toInt64 = lN (x + P - c) := by
    rw [nI_l (by omega), lN_add, lN_sub (by omega)]
  rw [e]
  exact pk_lRem (by omega) (by omega) (by omega)
theorem power_at {V : HEn} {G : Gh} : ∀ (f m nx its by_ k : Nat), k < 2 ^ f → f + 1 ≤ m → its < PP → by_ < PP → f ≤ 40 → hL_X0_power_9 V m G nx (lN its) (lN by_) (lN k) = some (lN (pwF f its by_ k), G, 0, 0) := by
  intro f
  induction f with
  | zero =>
    intro m nx its by_ k hk hm hi hb hf
    obtain ⟨m, rfl⟩ := Nat.exists_eq_succ_of_ne_zero (show m ≠ 0 by omega)
    have : k = 0 := by omega
    subst this
    rw [hL_X0_power_9, if_pos (by decide)]; rfl
  | succ f ih =>
    intro m nx its by_ k hk hm hi hb hf
    obtain ⟨m, rfl⟩ := Nat.exists_eq_succ_of_ne_zero (show m ≠ 0 by omega)
    have h40 : 2 ^ (f + 1) ≤ 2 ^ 40 := Nat.pow_le_pow_right (by decide) hf
    rw [hL_X0_power_9, pwF]
    by_cases c : k = 0
    · subst c
      rw [if_pos (by decide), if_pos rfl]
    · rw [if_neg (fun z => by rw [lg_cmp_le] at z; have := (pk_lLE (b := 0) (by omega) (by decide)).mp z; omega), if_neg c]
      have e2 : lN k - lN k / 2 * 2 = lN (k % 2) := pk_lRem (b := 2) (by omega) (by decide) (by decide)
      have e3 : lN k / 2 = lN (k / 2) := pk_lDiv (b := 2) (by omega) (by decide) (by decide)
      rw [e2]
      unfold hB_X0_power_41
      rw [mulrem hi hb, mulrem hb hb, e3]
      have hlt := Nat.mod_lt (its * by_) (show 0 < PP by decide)
      have hlt2 := Nat.mod_lt (by_ * by_) (show 0 < PP by decide)
      rw [Nat.pow_succ] at hk
      by_cases c1 : k % 2 = 1
      · rw [if_pos (by rw [c1, lg_cmp_eq]; rfl), if_pos c1]
        exact ih m nx _ _ _ (by omega) (by omega) hlt hlt2 (by omega)
      · rw [if_neg (fun z => by rw [lg_cmp_eq] at z; exact c1 ((pk_lEQ (b := 1) (by omega) (by decide)).mp z)), if_neg c1]
        exact ih m nx _ _ _ (by omega) (by omega) hi hlt2 (by omega)
theorem pwF_lt : ∀ (f its by_ k : Nat), its < PP → pwF f its by_ k < PP
  | 0, _, _, _, h => h
  | f + 1, its, by_, k, h => by
    rw [pwF]
    split
    · exact h
    · refine pwF_lt f _ _ _ ?_
      split
      · exact Nat.mod_lt _ (by decide)
      · exact h

/-! PURE 80: how soon an alarm can come: plain -/
section D
variable {n : Nat} {stp : Nat → Nat → Option Nat}
/-- an alarm can come within k signs -/
def rch (stp : Nat → Nat → Option Nat) : Nat → Nat → Bool
  | 0, _ => false
  | k + 1, j => rch stp k j || (List.range 5).any (fun s => match stp j s with
    | none => true
    | some x => rch stp k x)
theorem rch_mono {k j : Nat} (h : rch stp k j = true) : rch stp (k + 1) j = true := by
  rw [rch, h]; rfl
theorem rch_le {k m j : Nat} (h : rch stp k j = true) (hkm : k ≤ m) : rch stp m j = true := by
  induction m with
  | zero => have : k = 0 := by omega
            subst this; exact h
  | succ m ih =>
    by_cases c : k = m + 1
    · subst c; exact h
    · exact rch_mono (ih (by omega))
theorem rch_none {j s : Nat} (hs : s < 5) (h : stp j s = none) : rch stp 1 j = true := by
  rw [rch, Bool.or_eq_true]
  exact Or.inr (List.any_eq_true.mpr ⟨s, List.mem_range.mpr hs, by rw [h]⟩)
theorem rch_some {k j s x : Nat} (hs : s < 5) (h : stp j s = some x) (hx : rch stp k x = true) : rch stp (k + 1) j = true := by
  rw [rch, Bool.or_eq_true]
  exact Or.inr (List.any_eq_true.mpr ⟨s, List.mem_range.mpr hs, by rw [h]; exact hx⟩)
theorem rch_ex {k j : Nat} (h : rch stp (k + 1) j = true) (h0 : rch stp k j = false) : ∃ s, s < 5 ∧ ((stp j s = none ∧ k = 0) ∨ ∃ x, stp j s = some x ∧ rch stp k x = true ∧ (∀ k', k' < k → rch stp k' x = false)) := by
  rw [rch, h0, Bool.false_or] at h
  obtain ⟨s, h1, h2⟩ := List.any_eq_true.mp h
  have hs := List.mem_range.mp h1
  refine ⟨s, hs, ?_⟩
  cases e : stp j s with
  | none =>
    refine Or.inl ⟨rfl, ?_⟩
    by_cases c : k = 0
    · exact c
    · have := rch_le (rch_none hs e) (show 1 ≤ k by omega)
      rw [h0] at this; cases this
  | some x =>
    rw [e] at h2
    refine Or.inr ⟨x, rfl, h2, fun k' hk' => ?_⟩
    cases e2 : rch stp k' x with
    | false => rfl
    | true =>
      have := rch_le (rch_some hs e e2) (show k' + 1 ≤ k by omega)
      rw [h0] at this; cases this
/-- the least number of signs, at most k -/
def fk (stp : Nat → Nat → Option Nat) (k j : Nat) : Option Nat := (List.range (k + 1)).find? (fun d => rch stp d j)
theorem fk_some {k j d : Nat} : fk stp k j = some d ↔ (d ≤ k ∧ rch stp d j = true ∧ ∀ d', d' < d → rch stp d' j = false) := by
  unfold fk
  rw [List.find?_eq_some_iff_getElem]
  constructor
  · rintro ⟨h1, i, hi, h2, h3⟩
    rw [List.getElem_range] at h2
    subst h2
    simp at hi
    refine ⟨by omega, h1, fun d' hd' => ?_⟩
    have := h3 d' hd'
    rw [List.getElem_range] at this
    simpa using this
  · rintro ⟨h1, h2, h3⟩
    refine ⟨h2, d, by simp; omega, by simp, fun j' hj' => ?_⟩
    rw [List.getElem_range]
    simp [h3 j' hj']
theorem fk_none {k j : Nat} : fk stp k j = none ↔ rch stp k j = false := by
  unfold fk
  rw [List.find?_eq_none]
  constructor
  · intro h
    have := h k (by simp)
    simpa using this
  · intro h d hd
    cases e : rch stp d j with
    | false => simp
    | true =>
      have := rch_le e (show d ≤ k by simp at hd; omega)
      rw [h] at this; cases this
theorem fk_pos {k j d : Nat} (h : fk stp k j = some d) : 1 ≤ d := by
  have := (fk_some.mp h).2.1
  cases d with
  | zero => rw [rch] at this; cases this
  | succ d => omega
theorem fk_keep {k m j d : Nat} (h : fk stp k j = some d) (hm : k ≤ m) : fk stp m j = some d := by
  obtain ⟨h1, h2, h3⟩ := fk_some.mp h
  exact fk_some.mpr ⟨by omega, h2, h3⟩
theorem fk_down {k m j d : Nat} (h : fk stp m j = some d) (hd : d ≤ k) : fk stp k j = some d := by
  obtain ⟨h1, h2, h3⟩ := fk_some.mp h
  exact fk_some.mpr ⟨hd, h2, h3⟩
/-- one round more: what leads there -/
def fkE (stp : Nat → Nat → Option Nat) (k j s : Nat) : Prop := (stp j s = none ∧ k = 0) ∨ ∃ x, stp j s = some x ∧ fk stp k x = some k
theorem fk_step {k j : Nat} (h0 : fk stp k j = none) : fk stp (k + 1) j = (if rch stp (k + 1) j then some (k + 1) else none) := by
  have h1 := fk_none.mp h0
  cases e : rch stp (k + 1) j with
  | false => exact fk_none.mpr e
  | true =>
    refine fk_some.mpr ⟨by omega, e, fun d hd => ?_⟩
    cases e2 : rch stp d j with
    | false => rfl
    | true =>
      have := rch_le e2 (show d ≤ k by omega)
      rw [h1] at this; cases this
theorem fkE_iff {k j : Nat} (h0 : fk stp k j = none) : rch stp (k + 1) j = true ↔ ∃ s, s < 5 ∧ fkE stp k j s := by
  constructor
  · intro h
    obtain ⟨s, hs, h2⟩ := rch_ex h (fk_none.mp h0)
    refine ⟨s, hs, ?_⟩
    rcases h2 with w | ⟨x, w1, w2, w3⟩
    · exact Or.inl w
    · exact Or.inr ⟨x, w1, fk_some.mpr ⟨Nat.le_refl _, w2, w3⟩⟩
  · rintro ⟨s, hs, w | ⟨x, w1, w2⟩⟩
    · rw [w.2]; exact rch_none hs w.1
    · exact rch_some hs w1 (fk_some.mp w2).2.1
/-- a round in which nothing comes: nothing comes any more -/
theorem fk_fix (hlt : ∀ j s x, j < n → s < 5 → stp j s = some x → x < n) {k : Nat} (h : ∀ j, j < n → rch stp (k + 1) j = rch stp k j) : ∀ m, k ≤ m → ∀ j, j < n → rch stp m j = rch stp k j := by
  intro m
  induction m with
  | zero => intro hm j hj; have : k = 0 := by omega
            subst this; rfl
  | succ m ih =>
    intro hm j hj
    by_cases c : k = m + 1
    · subst c; rfl
    · have ih' := ih (by omega)
      rw [← h j hj, rch, rch, ih' j hj]
      congr 1
      rw [Bool.eq_iff_iff, List.any_eq_true, List.any_eq_true]
      have key : ∀ s, s < 5 → ((match stp j s with | none => true | some x => rch stp m x) = (match stp j s with | none => true | some x => rch stp k x)) := fun s hs => by
        cases e : stp j s with
        | none => rfl
        | some x => exact ih' x (hlt j s x hj hs e)
      constructor
      · rintro ⟨s, s1, s2⟩
        exact ⟨s, s1, by rw [← key s (List.mem_range.mp s1)]; exact s2⟩
      · rintro ⟨s, s1, s2⟩
        exact ⟨s, s1, by rw [key s (List.mem_range.mp s1)]; exact s2⟩
def cntR (n : Nat) (p : Nat → Bool) : Nat := ((List.range n).filter p).length
theorem cntR_le {p : Nat → Bool} : cntR n p ≤ n := by
  have := List.length_filter_le p (List.range n)
  simpa [cntR] using this
theorem cntR_mono {p q : Nat → Bool} (h : ∀ j, j < n → p j = true → q j = true) : cntR n p ≤ cntR n q := by
  unfold cntR
  refine nodup_sub (List.Nodup.sublist List.filter_sublist List.nodup_range) (fun a ha => ?_)
  obtain ⟨h1, h2⟩ := List.mem_filter.mp ha
  exact List.mem_filter.mpr ⟨h1, h a (List.mem_range.mp h1) h2⟩
theorem cntR_lt {p q : Nat → Bool} (h : ∀ j, j < n → p j = true → q j = true) {j : Nat} (hj : j < n) (h1 : p j = false) (h2 : q j = true) : cntR n p + 1 ≤ cntR n q := by
  unfold cntR
  have hnj : j ∉ (List.range n).filter p := fun w => by
    have := (List.mem_filter.mp w).2
    rw [h1] at this
    cases this
  have hnd : (j :: (List.range n).filter p).Nodup := List.nodup_cons.mpr ⟨hnj, List.Nodup.sublist List.filter_sublist List.nodup_range⟩
  have := nodup_sub hnd (m := (List.range n).filter q) (fun a ha => by
    rcases List.mem_cons.mp ha with w | w
    · rw [w]; exact List.mem_filter.mpr ⟨List.mem_range.mpr hj, h2⟩
    · obtain ⟨h3, h4⟩ := List.mem_filter.mp w
      exact List.mem_filter.mpr ⟨h3, h a (List.mem_range.mp h3) h4⟩)
  simpa using this
/-- behind k rounds: at least k are come to, or nothing comes any more -/
theorem rch_cnt (hlt : ∀ j s x, j < n → s < 5 → stp j s = some x → x < n) : ∀ k, k ≤ cntR n (rch stp k) ∨ ∀ j, j < n → rch stp (k + 1) j = rch stp k j
  | 0 => Or.inl (Nat.zero_le _)
  | k + 1 => by
    rcases rch_cnt hlt k with h | h
    · by_cases c : ∀ j, j < n → rch stp (k + 1) j = rch stp k j
      · right
        intro j hj
        rw [fk_fix hlt c (k + 2) (by omega) j hj, fk_fix hlt c (k + 1) (by omega) j hj]
      · left
        have : ∃ j, j < n ∧ rch stp (k + 1) j ≠ rch stp k j := by
          refine Classical.byContradiction fun w => c fun j hj => ?_
          exact Classical.byContradiction fun w2 => w ⟨j, hj, w2⟩
        obtain ⟨j, hj, hne⟩ := this
        cases e : rch stp k j with
        | true => rw [e, rch_mono e] at hne; exact absurd rfl hne
        | false =>
          cases e2 : rch stp (k + 1) j with
          | false => rw [e, e2] at hne; exact absurd rfl hne
          | true =>
            have := cntR_lt (n := n) (p := rch stp k) (q := rch stp (k + 1)) (fun j _ => rch_mono) hj e e2
            omega
    · right
      intro j hj
      rw [fk_fix hlt h (k + 2) (by omega) j hj, fk_fix hlt h (k + 1) (by omega) j hj]
/-- n rounds are enough -/
theorem rch_n (hlt : ∀ j s x, j < n → s < 5 → stp j s = some x → x < n) : ∀ m, n ≤ m → ∀ j, j < n → rch stp m j = rch stp n j := by
  rcases rch_cnt hlt (n + 1) with h | h
  · have := cntR_le (n := n) (p := rch stp (n + 1))
    omega
  · rcases rch_cnt hlt n with h2 | h2
    · -- all are come to
      intro m hm j hj
      have hall : rch stp n j = true := by
        cases e : rch stp n j with
        | true => rfl
        | false =>
          have := cntR_lt (n := n) (p := rch stp n) (q := fun _ => true) (fun _ _ _ => rfl) hj e rfl
          have := cntR_le (n := n) (p := fun _ => true)
          omega
      rw [hall]; exact rch_le hall hm
    · exact fun m hm => fk_fix hlt h2 m hm
/-- how far it is to an alarm -/
def dF (n : Nat) (stp : Nat → Nat → Option Nat) (j : Nat) : Option Nat := fk stp n j
theorem fk_dF (hlt : ∀ j s x, j < n → s < 5 → stp j s = some x → x < n) {k j : Nat} (hj : j < n) (hk : (∀ j, j < n → rch stp (k + 1) j = rch stp k j) ∨ n ≤ k) : fk stp k j = dF n stp j := by
  unfold dF
  have hr : ∀ d, rch stp d j = true → rch stp k j = true := fun d hd => by
    rcases hk with w | w
    · by_cases c : d ≤ k
      · exact rch_le hd c
      · rw [fk_fix hlt w d (by omega) j hj] at hd; exact hd
    · by_cases c : d ≤ k
      · exact rch_le hd c
      · rw [rch_n hlt d (by omega) j hj] at hd; exact rch_le hd w
  cases e : fk stp k j with
  | none =>
    refine (fk_none.mpr ?_).symm
    cases e2 : rch stp n j with
    | false => rfl
    | true =>
      have := fk_none.mp e
      rw [hr n e2] at this; cases this
  | some d =>
    obtain ⟨h1, h2, h3⟩ := fk_some.mp e
    refine (fk_some.mpr ⟨?_, h2, h3⟩).symm
    by_cases c : d ≤ n
    · exact c
    · have := h3 n (by omega)
      rw [rch_n hlt d (by omega) j hj, this] at h2; cases h2
end D

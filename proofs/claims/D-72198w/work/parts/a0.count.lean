/-! PURE 57: at most 36 parts -/
section X
variable {rs : List Ru} {Ls : List Nat}
theorem stF_inv {P : Nat → Prop} {p : Nat} : ∀ {ss l : List Nat}, (∀ s ∈ ss, pM rs p s = 0 → P (pB rs p s)) → (∀ y ∈ l, P y) → ∀ y ∈ stF rs p l ss, P y
  | [], l, _, h => h
  | a :: ss, l, hp, h => by
    have h3 : ∀ y ∈ stP rs p l a, P y := by
      unfold stP
      split
      · rename_i c
        intro y hy
        unfold addN at hy
        split at hy
        · exact h y hy
        · rcases List.mem_append.mp hy with w | w
          · exact h y w
          · rw [List.mem_singleton.mp w]; exact hp a (by simp) c
      · exact h
    exact stF_inv (ss := ss) (l := stP rs p l a) (fun s hs => hp s (by simp [hs])) h3
theorem bfs_inv {P : Nat → Prop} (hP : ∀ p s, s < 5 → P p → pM rs p s = 0 → P (pB rs p s)) : ∀ (j k : Nat) (l : List Nat), (∀ y ∈ l, P y) → ∀ y ∈ bfsL rs j k l, P y := by
  intro j
  induction j with
  | zero => intro k l h; exact h
  | succ j ih =>
    intro k l h
    cases ek : l[k]? with
    | none => rw [bfsL, ek]; exact h
    | some p =>
      have eb : bfsL rs (j + 1) k l = bfsL rs j (k + 1) (stF rs p l (List.range' 0 5)) := by rw [bfsL, ek]
      rw [eb]
      have hpl : P p := h p (List.mem_of_getElem? ek)
      exact ih (k + 1) _ (stF_inv (fun s hs => hP p s (by rw [List.mem_range'_1] at hs; omega) hpl) h)
/-- no rule is met by what is kept -/
def pOk : List Ru → Nat → Prop
  | [], _ => True
  | r :: t, p => pop (p % 2 ^ (r.2.1 - 1)) < r.1 ∧ pOk t (p / 2 ^ (r.2.1 - 1))
theorem pB_hi {r : Ru} {t : List Ru} {p s : Nat} : pB (r :: t) p s / 2 ^ (r.2.1 - 1) = pB t (p / 2 ^ (r.2.1 - 1)) s := by
  show (rK r _ + 2 ^ (r.2.1 - 1) * pB t _ s) / 2 ^ (r.2.1 - 1) = _
  have hlt : rK r (rB r (p % 2 ^ (r.2.1 - 1)) s) < 2 ^ (r.2.1 - 1) := Nat.mod_lt _ (Nat.two_pow_pos _)
  rw [Nat.add_mul_div_left _ _ (Nat.two_pow_pos _), Nat.div_eq_of_lt hlt, Nat.zero_add]
theorem pB_lo {r : Ru} {t : List Ru} {p s : Nat} : pB (r :: t) p s % 2 ^ (r.2.1 - 1) = rK r (rB r (p % 2 ^ (r.2.1 - 1)) s) := by
  show (rK r _ + 2 ^ (r.2.1 - 1) * pB t _ s) % 2 ^ (r.2.1 - 1) = _
  have hlt : rK r (rB r (p % 2 ^ (r.2.1 - 1)) s) < 2 ^ (r.2.1 - 1) := Nat.mod_lt _ (Nat.two_pow_pos _)
  rw [Nat.add_mul_mod_self_left, Nat.mod_eq_of_lt hlt]
theorem pM_cons {r : Ru} {t : List Ru} {p s : Nat} : pM (r :: t) p s = 0 ↔ (rM r (p % 2 ^ (r.2.1 - 1)) s = false ∧ pM t (p / 2 ^ (r.2.1 - 1)) s = 0) := by
  show (if rM r (p % 2 ^ (r.2.1 - 1)) s then 1 else 0) + 2 * pM t (p / 2 ^ (r.2.1 - 1)) s = 0 ↔ _
  generalize rM r (p % 2 ^ (r.2.1 - 1)) s = b
  generalize pM t (p / 2 ^ (r.2.1 - 1)) s = y
  cases b
  · simp; omega
  · simp
theorem pop_kept : ∀ n, n < 5 → ∀ x, x < 16 → pop (x % 2 ^ (n - 1)) ≤ pop x := by decide +kernel
theorem pOk_step {s : Nat} : ∀ (rs : List Ru) (p : Nat), (∀ r ∈ rs, RuOk r) → pM rs p s = 0 → pOk rs (pB rs p s)
  | [], _, _, _ => trivial
  | r :: t, p, hr, h => by
    obtain ⟨h1, h2⟩ := pM_cons.mp h
    have ok := hr r (by simp)
    refine ⟨?_, by rw [pB_hi]; exact pOk_step t _ (fun r' h' => hr r' (by simp [h'])) h2⟩
    rw [pB_lo]
    have h3 : ¬ r.1 ≤ pop (rB r (p % 2 ^ (r.2.1 - 1)) s) := of_decide_eq_false h1
    have h4 := pop_kept r.2.1 (by have := ok.2.2.1; omega) _ (rB_lt (b := p % 2 ^ (r.2.1 - 1)) (s := s) ok)
    unfold rK
    omega
theorem pOk_0 : ∀ (rs : List Ru), (∀ r ∈ rs, RuOk r) → pOk rs 0
  | [], _ => trivial
  | r :: t, hr => by
    have ok := hr r (by simp)
    refine ⟨?_, by rw [Nat.zero_div]; exact pOk_0 t (fun r' h' => hr r' (by simp [h']))⟩
    rw [Nat.zero_mod]
    have : pop 0 = 0 := by decide
    rw [this]
    exact ok.1
theorem plcs_inv (hr : ∀ r ∈ rs, RuOk r) : ∀ y ∈ plcs rs, pOk rs y ∧ y < 2 ^ bks rs := by
  refine bfs_inv (P := fun y => pOk rs y ∧ y < 2 ^ bks rs) (fun p s _ _ h => ⟨pOk_step rs p hr h, pB_lt rs p s⟩) 64 0 [0] (fun y hy => ?_)
  rw [List.mem_singleton.mp hy]
  exact ⟨pOk_0 rs hr, Nat.two_pow_pos _⟩
/-- the class of packed bits -/
def pC : List Ru → Nat → List Nat
  | [], _ => []
  | r :: t, p => bC r.1 r.2.1 (p % 2 ^ (r.2.1 - 1)) ++ pC t (p / 2 ^ (r.2.1 - 1))
theorem bC_len {m n b : Nat} : (bC m n b).length = 8 := rfl
theorem pC_cons {r : Ru} {t : List Ru} {p q : Nat} (h : pC (r :: t) p = pC (r :: t) q) : bC r.1 r.2.1 (p % 2 ^ (r.2.1 - 1)) = bC r.1 r.2.1 (q % 2 ^ (r.2.1 - 1)) ∧ pC t (p / 2 ^ (r.2.1 - 1)) = pC t (q / 2 ^ (r.2.1 - 1)) := List.append_inj h rfl
theorem low8 {r : Ru} (ok : RuOk r) (p : Nat) : p % 2 ^ (r.2.1 - 1) < 8 := by
  have h1 : p % 2 ^ (r.2.1 - 1) < 2 ^ (r.2.1 - 1) := Nat.mod_lt _ (Nat.two_pow_pos _)
  have h2 : 2 ^ (r.2.1 - 1) ≤ 2 ^ 3 := Nat.pow_le_pow_right (by decide) (by have := ok.2.2.1; omega)
  omega
theorem bOk_use {n m b b' x : Nat} (h1 : 1 ≤ n) (h2 : 1 ≤ m) (hn : n < 5) (hm : m < 5) (hb : b < 8) (hb' : b' < 8) (hx : x < 2) (h : bC m n b = bC m n b') : bA m n b x = bA m n b' x ∧ (bA m n b x = false → bC m n (bN n b x) = bC m n (bN n b' x)) := by
  have := bOk_all n hn m hm b hb b' hb' x hx
  unfold bOk at this
  rw [decide_eq_true h1, decide_eq_true h2, decide_eq_true h] at this
  simp only [Bool.and_self, Bool.not_true, Bool.false_or, Bool.and_eq_true, decide_eq_true_eq, Bool.or_eq_true] at this
  refine ⟨this.1, fun z => ?_⟩
  rcases this.2 with w | w
  · rw [z] at w; cases w
  · exact w
theorem pC_step {s : Nat} : ∀ (rs : List Ru) (p q : Nat), (∀ r ∈ rs, RuOk r) → pC rs p = pC rs q → (pM rs p s = 0 ↔ pM rs q s = 0) ∧ (pM rs p s = 0 → pC rs (pB rs p s) = pC rs (pB rs q s))
  | [], _, _, _, _ => ⟨Iff.rfl, fun _ => rfl⟩
  | r :: t, p, q, hr, h => by
    obtain ⟨h1, h2⟩ := pC_cons h
    have ok := hr r (by simp)
    obtain ⟨i1, i2⟩ := pC_step (s := s) t _ _ (fun r' h' => hr r' (by simp [h'])) h2
    have hx : r.2.2 / 2 ^ s % 2 < 2 := Nat.mod_lt _ (by decide)
    obtain ⟨b1, b2⟩ := bOk_use (x := r.2.2 / 2 ^ s % 2) (by have := ok.1; have := ok.2.1; omega) ok.1 (by have := ok.2.2.1; omega) (by have := ok.2.1; have := ok.2.2.1; omega) (low8 ok p) (low8 ok q) hx h1
    have e : ∀ b, rM r b s = bA r.1 r.2.1 b (r.2.2 / 2 ^ s % 2) := fun _ => rfl
    have eN : ∀ b, rK r (rB r b s) = bN r.2.1 b (r.2.2 / 2 ^ s % 2) := fun _ => rfl
    constructor
    · rw [pM_cons, pM_cons, e, e, b1, i1]
    · intro h0
      obtain ⟨m1, m2⟩ := pM_cons.mp h0
      show bC _ _ (pB (r :: t) p s % _) ++ pC t (pB (r :: t) p s / _) = bC _ _ (pB (r :: t) q s % _) ++ pC t (pB (r :: t) q s / _)
      rw [pB_lo, pB_lo, pB_hi, pB_hi, eN, eN, b2 (by rw [← e]; exact m1), i2 m2]
theorem cls_prt (hl : Ls.length ≤ 64) (hr : ∀ r ∈ rs, RuOk r) (hcl : ∀ k (hk : k < Ls.length) s, s < 5 → pM rs Ls[k] s = 0 → pB rs Ls[k] s ∈ Ls) : ∀ (r i k : Nat), i < Ls.length → k < Ls.length → pC rs (Ls.getD i 0) = pC rs (Ls.getD k 0) → prt rs Ls r i = prt rs Ls r k
  | 0, _, _, _, _, _ => rfl
  | r + 1, i, k, hi, hk, h => by
    have ih := cls_prt hl hr hcl r
    refine (prt_iff hl hi hk).mpr ⟨ih i k hi hk h, fun s hs => ?_⟩
    obtain ⟨c1, c2⟩ := pC_step (s := s) rs _ _ hr h
    cases ei : ldP rs Ls i s with
    | none =>
      have := (ldP_none hcl hi hs).mp ei
      rw [(ldP_none hcl hk hs).mpr (fun z => this (c1.mpr z))]
    | some x =>
      obtain ⟨x1, x2, x3⟩ := ldP_at ei
      cases ek : ldP rs Ls k s with
      | none => exact absurd (c1.mp x2) ((ldP_none hcl hk hs).mp ek)
      | some y =>
        obtain ⟨y1, y2, y3⟩ := ldP_at ek
        exact congrArg some (ih x y x1 y1 (by rw [x3, y3]; exact c2 x2))
/-- all classes -/
def prodC : List Ru → List (List Nat)
  | [] => [[]]
  | r :: t => (bSet r.1 r.2.1).flatMap fun a => (prodC t).map (a ++ ·)
theorem fm_len {t : List (List Nat)} : ∀ {l : List (List Nat)}, (l.flatMap fun a => t.map (a ++ ·)).length = l.length * t.length
  | [] => by simp
  | a :: l => by
    rw [List.flatMap_cons, List.length_append, fm_len (l := l), List.length_map, List.length_cons, Nat.add_mul]
    omega
theorem bSet_mem {m n b : Nat} (hb : b < 2 ^ (n - 1)) (hp : pop b < m) : bC m n b ∈ bSet m n := by
  unfold bSet
  rw [List.mem_eraseDups]
  refine List.mem_map.mpr ⟨b, List.mem_filter.mpr ⟨List.mem_range.mpr hb, decide_eq_true hp⟩, rfl⟩
theorem pC_mem : ∀ (rs : List Ru) (p : Nat), pOk rs p → pC rs p ∈ prodC rs
  | [], _, _ => by simp [pC, prodC]
  | r :: t, p, h => by
    refine List.mem_flatMap.mpr ⟨_, bSet_mem (Nat.mod_lt _ (Nat.two_pow_pos _)) h.1, ?_⟩
    exact List.mem_map.mpr ⟨_, pC_mem t _ h.2, rfl⟩
theorem bPr_use {a b c : Nat} (ha : a < 5) (hb : b < 5) (hc : c < 5) (h : (a - 1) + (b - 1) + (c - 1) ≤ 6) : bT a * bT b * bT c ≤ 36 := by
  have := bPr_all a ha b hb c hc
  unfold bPr at this
  rw [decide_eq_true h] at this
  simpa using this
theorem prodC_len (hr : ∀ r ∈ rs, RuOk r) (h3 : rs.length ≤ 3) (h6 : bks rs ≤ 6) : (prodC rs).length ≤ 36 := by
  have one : ∀ r ∈ rs, (bSet r.1 r.2.1).length ≤ bT r.2.1 ∧ r.2.1 < 5 := fun r h => by
    obtain ⟨o1, o2, o3, o4, o5⟩ := hr r h
    exact ⟨bSet_len r.2.1 (by omega) r.1 (by omega) o1 o2, by omega⟩
  match rs, h3, h6, one with
  | [], _, _, _ => decide
  | [a], _, h6, one =>
    obtain ⟨a1, a2⟩ := one a (by simp)
    simp only [bks] at h6
    have h := bPr_use (a := a.2.1) (b := 1) (c := 1) a2 (by decide) (by decide) (by omega)
    simp only [prodC, fm_len]
    simp [bT] at h ⊢
    simp [bT] at a1
    omega
  | [a, b], _, h6, one =>
    obtain ⟨a1, a2⟩ := one a (by simp)
    obtain ⟨b1, b2⟩ := one b (by simp)
    simp only [bks] at h6
    have h := bPr_use (a := a.2.1) (b := b.2.1) (c := 1) a2 b2 (by decide) (by omega)
    have e1 : bT 1 = 1 := rfl
    rw [e1, Nat.mul_one] at h
    simp only [prodC, fm_len, List.length_singleton, Nat.mul_one]
    exact Nat.le_trans (Nat.mul_le_mul a1 b1) h
  | [a, b, c], _, h6, one =>
    obtain ⟨a1, a2⟩ := one a (by simp)
    obtain ⟨b1, b2⟩ := one b (by simp)
    obtain ⟨c1, c2⟩ := one c (by simp)
    simp only [bks] at h6
    have h := bPr_use (a := a.2.1) (b := b.2.1) (c := c.2.1) a2 b2 c2 (by omega)
    simp only [prodC, fm_len, List.length_singleton, Nat.mul_one]
    rw [Nat.mul_assoc] at h
    exact Nat.le_trans (Nat.mul_le_mul a1 (Nat.mul_le_mul b1 c1)) h
theorem mm_36 (hl : Ls.length ≤ 64) (hr : ∀ r ∈ rs, RuOk r) (h3 : rs.length ≤ 3) (h6 : bks rs ≤ 6) (hcl : ∀ k (hk : k < Ls.length) s, s < 5 → pM rs Ls[k] s = 0 → pB rs Ls[k] s ∈ Ls) (hok : ∀ y ∈ Ls, pOk rs y) (r : Nat) : mm rs Ls (r + 1) ≤ 36 := by
  have h1 : mm rs Ls (r + 1) ≤ (kS (fun k => pC rs (Ls.getD k 0)) Ls.length).length := by
    refine kS_ref fun i hi k hk e => (key_iff hl).mpr ?_
    have := (prt_iff (r := r) hl hi hk).mp (cls_prt hl hr hcl (r + 1) i k hi hk e)
    exact this
  have h2 : (kS (fun k => pC rs (Ls.getD k 0)) Ls.length).length ≤ (prodC rs).length := by
    refine nodup_sub (kS_nd _) (fun a ha => ?_)
    obtain ⟨i, hi, e⟩ := kS_mem.mp ha
    rw [← e]
    have ei : Ls.getD i 0 = Ls[i] := by simp [hi]
    rw [ei]
    exact pC_mem rs _ (hok _ (List.getElem_mem hi))
  have h3 := prodC_len hr h3 h6
  omega
end X

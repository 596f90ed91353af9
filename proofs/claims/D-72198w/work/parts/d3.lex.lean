/-! PURE 90: tokens, plain; Reader.next -/
def skW (p : Nat → Bool) (l : List Nat) (a : Nat) : Nat := a + ((l.drop a).takeWhile p).length
def isSp (c : Nat) : Bool := decide (c = 32)
def isDg (c : Nat) : Bool := decide (48 ≤ c ∧ c ≤ 57)
def isLe (c : Nat) : Bool := decide (97 ≤ c ∧ c ≤ 122)
def nvF (acc c : Nat) : Nat := min 100 (10 * acc + (c - 48))
/-- a token: where it begins, its sort (0 end, 1 number, 2 ;, 3 rule, 4 chance, 5 sums, 6 wrong), its value, what is behind it -/
abbrev Tk := Nat × Nat × Nat × Nat
def wdS (w : List Nat) : Nat := if w = [114, 117, 108, 101] then 3 else if w = [99, 104, 97, 110, 99, 101] then 4 else if w = [115, 117, 109, 115] then 5 else 6
def lexB (l : List Nat) (b : Nat) : Tk := match l[b]? with
  | none => (b, 0, 0, b)
  | some c => if isDg c then (if ((l.drop b).takeWhile isDg).foldl nvF 0 ≤ 99 ∧ (c ≠ 48 ∨ skW isDg l b = b + 1) then (b, 1, ((l.drop b).takeWhile isDg).foldl nvF 0, skW isDg l b) else (b, 6, 0, skW isDg l b)) else if isLe c then (b, wdS ((l.drop b).takeWhile isLe), 0, skW isLe l b) else (b, (if c = 59 then 2 else 6), 0, b + 1)
def lexT (l : List Nat) (a : Nat) : Tk := lexB l (skW isSp l a)
/-- a token's word -/
def tkW (t : Tk) : List Nat := if t.2.1 = 1 then [48] else if t.2.1 = 2 then [59] else if t.2.1 = 3 then [114, 117, 108, 101] else if t.2.1 = 4 then [99, 104, 97, 110, 99, 101] else if t.2.1 = 5 then [115, 117, 109, 115] else []
def tkN (t : Tk) : Int32 := if t.2.1 = 1 then nI t.2.2.1 else -9
theorem skW_stop {p : Nat → Bool} {l : List Nat} {a : Nat} (h : ∀ c, l[a]? = some c → p c = false) : skW p l a = a := by
  unfold skW
  have : (l.drop a).takeWhile p = [] := by
    cases e : l.drop a with
    | nil => rfl
    | cons c t =>
      have hc : l[a]? = some c := by
        have := congrArg (fun x => x[0]?) e
        simpa using this
      rw [List.takeWhile_cons_of_neg (by rw [h c hc]; decide)]
  rw [this]; rfl
theorem drop_cons {l : List Nat} {a c : Nat} (h : l[a]? = some c) : l.drop a = c :: l.drop (a + 1) := by
  obtain ⟨h1, h2⟩ := List.getElem?_eq_some_iff.mp h
  rw [List.drop_eq_getElem_cons h1, h2]
theorem skW_step {p : Nat → Bool} {l : List Nat} {a c : Nat} (h : l[a]? = some c) (hp : p c = true) : skW p l a = skW p l (a + 1) ∧ (l.drop a).takeWhile p = c :: (l.drop (a + 1)).takeWhile p := by
  have e : (l.drop a).takeWhile p = c :: (l.drop (a + 1)).takeWhile p := by
    rw [drop_cons h, List.takeWhile_cons_of_pos hp]
  refine ⟨?_, e⟩
  unfold skW
  rw [e, List.length_cons]; omega
theorem skW_le {p : Nat → Bool} {l : List Nat} {a : Nat} (h : a ≤ l.length) : a ≤ skW p l a ∧ skW p l a ≤ l.length := by
  unfold skW
  have := (List.takeWhile_sublist (l := l.drop a) p).length_le
  rw [List.length_drop] at this
  omega
theorem take_skW {p : Nat → Bool} {l : List Nat} {a : Nat} : (l.drop a).take (skW p l a - a) = (l.drop a).takeWhile p := by
  unfold skW
  rw [Nat.add_sub_cancel_left]
  have := List.takeWhile_prefix p (l := l.drop a)
  exact (List.prefix_iff_eq_take.mp this).symm
abbrev rdc (so po at_ bg wo : Nat) (nu : Int32) (it on : Nat) : va_E := .inr (3, [va_rf (some so), va_rf (some po), .int (nI at_), .int (nI bg), va_rf (some wo), .int nu, .int (nI it), va_rf (some on)])
/-- a Fault -/
def FtA (G : Gh) (q at_ : Nat) : Prop := ∃ fs, G q = some (.inr (4, fs)) ∧ fs[6]? = some (.int (nI at_))
def ofB (l : List Nat) (a lo hi : Nat) : Bool := match l[a]? with
  | some c => decide (lo ≤ c ∧ c ≤ hi)
  | none => false
section X
variable {V : HEn} {G : Gh} {nx ro so sd po at_ bg wo it on : Nat} {nu : Int32} {l : List Nat} {st : Prop}
theorem fault_at {q a : Nat} (hb : V.1 ≤ q) (h : G q = some (.inr (4, [.null, .null, .null, .null, .null, .int 0, .int 0]))) : wH (hF_X5_init V G nx q (nI a)) (fun _ G' c s => c = 0 ∧ s = 0 ∧ FtA G' q a ∧ ∀ b, b ≠ q → G' b = G b) := by
  unfold hF_X5_init hF_J15_init hF_J14_init_2 hB_J14_init_2_60
  apply w_cB
  apply w_cB
  refine w_xF h rfl (Nat.le_of_ble_eq_true rfl) hb rfl (w_xF (gset_eq _ _ _) rfl (Nat.le_of_ble_eq_true rfl) hb rfl (w_xF (gset_eq _ _ _) rfl (Nat.le_of_ble_eq_true rfl) hb rfl (w_pos rfl (w_xF (gset_eq _ _ _) rfl (Nat.le_of_ble_eq_true rfl) hb rfl (w_xF (gset_eq _ _ _) rfl (Nat.le_of_ble_eq_true rfl) hb rfl (w_xF (gset_eq _ _ _) rfl (Nat.le_of_ble_eq_true rfl) hb rfl (w_pos rfl (w_xF (gset_eq _ _ _) rfl (Nat.le_of_ble_eq_true rfl) hb rfl (w_ret (w_ret ?_))))))))))
  refine w_xF (gset_eq _ _ _) rfl (Nat.le_of_ble_eq_true rfl) hb rfl (w_ret ⟨rfl, rfl, ⟨_, gset_eq _ _ _, rfl⟩, fun b hb' => ?_⟩)
  simp only [gset_ne _ _ hb']
theorem wants_no (hR : G ro = some (rdc so po at_ bg wo nu it on)) (hro : ro < nx) (hb : V.1 ≤ nx) : wH (hF_X4_wants V G nx ro 0) (fun r G' c s => r = .inr nx ∧ c = 1 ∧ s = 7 ∧ FtA G' nx bg ∧ ∀ b, b < nx → G' b = G b) := by
  unfold hF_X4_wants
  refine w_pos rfl (w_tick (w_xI (by rw [gset_ne _ _ (by omega)]; exact hR) rfl rfl (w_call (fault_at hb (gset_eq _ _ _)) ?_)))
  rintro - G1 c s ⟨rfl, rfl, u1, u2⟩
  obtain ⟨fs, v1, v2⟩ := id u1
  exact w_pos (gC_at v1) (w_ret ⟨rfl, by omega, by omega, u1, fun b hb' => by rw [u2 b (by omega)]; exact gset_ne _ _ (by omega)⟩)
theorem wants_yes {v : Int32} (h : ¬ v = 0) : hF_X4_wants V G nx ro v = some (.inl (), G, 0, 0) := by
  unfold hF_X4_wants
  rw [if_neg h]
theorem isOf_at {lo hi : Nat} (hR : G ro = some (rdc so po at_ bg wo nu it on)) (hS : Str V G so sd l st) (ha : at_ ≤ l.length) (hlo : lo < 300) (hhi : hi < 300) : hF_X4_isOf V G nx ro (nI lo) (nI hi) = some (if ofB l at_ lo hi then 1 else 0, G, 0, 0) := by
  have hlen := hS.len
  have hX : wH (hF_X4_isOf V G nx ro (nI lo) (nI hi)) (fun q G' c s => q = (if ofB l at_ lo hi then 1 else 0) ∧ G' = G ∧ c = 0 ∧ s = 0) := by
    unfold hF_X4_isOf hB_X4_isOf_48 hB_X4_isOf_49
    refine w_xI hR rfl rfl (w_xR hR rfl rfl (w_some (w_pos hS.gC (w_call0 (str_length hS) ?_))))
    by_cases c : l.length ≤ at_
    · have e : ofB l at_ lo hi = false := by unfold ofB; rw [List.getElem?_eq_none_iff.mpr c]
      exact w_pos (nI_le c (by omega)) (w_pos (by decide) (w_ret ⟨by rw [e]; rfl, rfl, rfl, rfl⟩))
    · have hal : at_ < l.length := by omega
      have hc := hS.ch _ (List.getElem_mem hal)
      have eo : ofB l at_ lo hi = decide (lo ≤ l[at_] ∧ l[at_] ≤ hi) := by unfold ofB; rw [List.getElem?_eq_getElem hal]
      refine w_neg (nI_ge (by omega) (by omega)) (w_xR hR rfl rfl (w_xI hR rfl rfl (w_some (w_pos hS.gC (w_call0 (str_charAt hS hal) ?_)))))
      by_cases c1 : l[at_] < lo
      · have e : ofB l at_ lo hi = false := by rw [eo]; exact decide_eq_false (fun z => by omega)
        exact w_pos (nI_lt c1 (by omega)) (w_pos (by decide) (w_ret ⟨by rw [e]; rfl, rfl, rfl, rfl⟩))
      · refine w_neg (nI_nlt (by omega) (by omega)) (w_xR hR rfl rfl (w_xI hR rfl rfl (w_some (w_pos hS.gC (w_call0 (str_charAt hS hal) ?_)))))
        by_cases c2 : hi < l[at_]
        · have e : ofB l at_ lo hi = false := by rw [eo]; exact decide_eq_false (fun z => by omega)
          exact w_pos (nI_lt c2 (by omega)) (w_pos (by decide) (w_ret ⟨by rw [e]; rfl, rfl, rfl, rfl⟩))
        · have e : ofB l at_ lo hi = true := by rw [eo]; exact decide_eq_true (by omega)
          exact w_neg (nI_nlt (by omega) (by omega)) (w_pos (by decide) (w_ret ⟨by rw [e]; rfl, rfl, rfl, rfl⟩))
  obtain ⟨q, G', c, s, e, rfl, rfl, rfl, rfl⟩ := hX
  exact e
end X

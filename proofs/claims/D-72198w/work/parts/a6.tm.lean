/-! PURE 63: a TreeMap from times to signs, its insides hidden -/
/-- a TreeMap at o; its cells lie in F -/
def TM (V : HEn) (G : Gh) (o : Nat) (F : Nat → Prop) (l : List (Nat × Nat)) : Prop := ∃ N kv vv ps mc es ks, TMx V G o N kv vv ps mc es ks l ∧ ∀ a, (a = o ∨ N a ∨ es = some a ∨ ks = some a) → F a
/-- how many come ahead of x -/
def lbP (l : List (Nat × Nat)) (x : Nat) : Nat := (l.takeWhile (fun y => decide (y.1 < x))).length
theorem Srt.tail {a : Nat × Nat} {l : List (Nat × Nat)} (h : Srt (a :: l)) : Srt l := fun i j x y hij hx hy => h (i + 1) (j + 1) x y (by omega) (by simpa using hx) (by simpa using hy)
theorem Srt.head {a : Nat × Nat} {l : List (Nat × Nat)} (h : Srt (a :: l)) {y : Nat × Nat} {j : Nat} (hy : l[j]? = some y) : a.1 < y.1 := h 0 (j + 1) a y (by omega) rfl (by simpa using hy)
theorem lbP_ok : ∀ {l : List (Nat × Nat)} {x : Nat}, Srt l → LowB l x (lbP l x)
  | [], x, _ => ⟨Nat.le_refl _, fun i y h => by simp at h⟩
  | a :: l, x, h => by
    obtain ⟨h1, h2⟩ := lbP_ok (l := l) (x := x) h.tail
    by_cases c : a.1 < x
    · have e : lbP (a :: l) x = lbP l x + 1 := by
        unfold lbP
        rw [List.takeWhile_cons_of_pos (by simpa using c), List.length_cons]
      rw [e]
      refine ⟨by simp; omega, fun i y hy => ?_⟩
      cases i with
      | zero => simp at hy; subst hy; simp [c]
      | succ i => simp at hy; have := h2 i y hy; omega
    · have e : lbP (a :: l) x = 0 := by
        unfold lbP
        rw [List.takeWhile_cons_of_neg (by simp; omega)]
        rfl
      rw [e]
      refine ⟨Nat.zero_le _, fun i y hy => ?_⟩
      cases i with
      | zero => simp at hy; subst hy; omega
      | succ i => simp at hy; have := h.head hy; omega
theorem LowB.of {l : List (Nat × Nat)} {i : Nat} {y : Nat × Nat} (h : Srt l) (hy : l[i]? = some y) : LowB l y.1 i := by
  have hi := (List.getElem?_eq_some_iff.mp hy).1
  refine ⟨by omega, fun j z hz => ?_⟩
  by_cases c : j < i
  · have := h j i z y c hz hy; omega
  · by_cases c2 : j = i
    · subst c2; rw [hy] at hz; cases hz; omega
    · have := h i j y z (by omega) hy hz; omega
theorem LowB.uniq {l : List (Nat × Nat)} {x p q : Nat} (h : LowB l x p) (h' : LowB l x q) : p = q := by
  obtain ⟨h1, h2⟩ := h
  obtain ⟨k1, k2⟩ := h'
  by_cases c : p < q
  · have hp : p < l.length := by omega
    have a := h2 p _ (List.getElem?_eq_getElem hp)
    have b := k2 p _ (List.getElem?_eq_getElem hp)
    omega
  · by_cases c2 : q < p
    · have hp : q < l.length := by omega
      have a := h2 q _ (List.getElem?_eq_getElem hp)
      have b := k2 q _ (List.getElem?_eq_getElem hp)
      omega
    · omega
section X
variable {V : HEn} {G : Gh} {nx o : Nat} {F : Nat → Prop} {l : List (Nat × Nat)}
theorem TM.keep {G' : Gh} (h : TM V G o F l) (hk : ∀ a, F a → G' a = G a) (hc : ∀ a, a < V.1 → G' a = G a) : TM V G' o F l := by
  obtain ⟨N, kv, vv, ps, mc, es, ks, h1, h2⟩ := h
  exact ⟨N, kv, vv, ps, mc, es, ks, h1.keep (fun a ha => hk a (h2 a ha)) hc, h2⟩
theorem TM.mono {F' : Nat → Prop} (h : TM V G o F l) (hk : ∀ a, F a → F' a) : TM V G o F' l := by
  obtain ⟨N, kv, vv, ps, mc, es, ks, h1, h2⟩ := h
  exact ⟨N, kv, vv, ps, mc, es, ks, h1, fun a ha => hk a (h2 a ha)⟩
theorem TM.cell (h : TM V G o F l) : ∃ fs, G o = some (.inr (10, fs)) := by
  obtain ⟨N, kv, vv, ps, mc, es, ks, h1, h2⟩ := h
  exact h1.cell
theorem TM.gC (h : TM V G o F l) : gC G o 10 = true := by
  obtain ⟨fs, e⟩ := h.cell
  exact gC_at e
theorem TM.fo (h : TM V G o F l) : F o ∧ V.1 ≤ o ∧ Srt l ∧ l.length ≤ 100 := by
  obtain ⟨N, kv, vv, ps, mc, es, ks, h1, h2⟩ := h
  exact ⟨h2 o (Or.inl rfl), h1.2.2.2.1, h1.2.2.1, h1.2.2.2.2.1⟩
theorem TM.val (h : TM V G o F l) {i : Nat} {y : Nat × Nat} (hy : l[i]? = some y) : y.1 < 128 ∧ y.2 < 128 := by
  obtain ⟨N, kv, vv, ps, mc, es, ks, ⟨⟨x0, x1, x8, root, lf, rt, pa, co, lo, hi, h1, h2, h3⟩, h4, h5⟩, -⟩ := h
  obtain ⟨a, ha, e⟩ := h3.2.2.1 i (List.getElem?_eq_some_iff.mp hy).1
  obtain ⟨k, v, q1, q2, q3, q4, q5⟩ := h4 a ha
  rw [e, hy] at q1
  cases q1
  exact ⟨q4, q5⟩
theorem TM.size (h : TM V G o F l) : hF_J4_size V G nx o = some (nI l.length, G, 0, 0) := by
  obtain ⟨N, kv, vv, ps, mc, es, ks, h1, h2⟩ := h
  exact tm_size h1
theorem TM.has {ik x : Nat} (hV : 200 ≤ V.2.2.2.2) (h : TM V G o F l) (hik : IsInt V G (some ik) x) (hx : x < 128) : ∃ r, hF_J4_containsKey V G nx o (some ik) = some (r, G, 0, 0) ∧ ((r = 1 ∧ ∃ v, l[lbP l x]? = some (x, v)) ∨ (r = 0 ∧ ¬ ∃ v, l[lbP l x]? = some (x, v))) := by
  obtain ⟨-, -, hs, -⟩ := h.fo
  obtain ⟨N, kv, vv, ps, mc, es, ks, h1, h2⟩ := h
  obtain ⟨a, e0, e1, e2⟩ := hik
  cases e0
  obtain ⟨r, e, q⟩ := tm_has (nx := nx) hV h1 e2 hx (lbP_ok hs)
  rcases q with ⟨rfl, v, q⟩ | ⟨rfl, q⟩
  · exact ⟨_, e, Or.inl ⟨rfl, v, q⟩⟩
  · refine ⟨_, e, Or.inr ⟨rfl, ?_⟩⟩
    rintro ⟨v, z⟩
    exact q _ z rfl
theorem TM.get {ik x v p : Nat} (hV : 200 ≤ V.2.2.2.2) (h : TM V G o F l) (hik : IsInt V G (some ik) x) (hx : x < 128) (hpr : l[p]? = some (x, v)) : ∃ r, hF_J4_get V G nx o (some ik) = some (r, G, 0, 0) ∧ IsInt V G r v := by
  obtain ⟨-, -, hs, -⟩ := h.fo
  obtain ⟨N, kv, vv, ps, mc, es, ks, h1, h2⟩ := h
  obtain ⟨a, e0, e1, e2⟩ := hik
  cases e0
  exact tm_get (nx := nx) hV h1 e2 hx (LowB.of hs hpr) hpr
theorem TM.old (hF : ∀ a, F a → a < nx) {N : Nat → Prop} {es ks : Option Nat} (h2 : ∀ a, (a = o ∨ N a ∨ es = some a ∨ ks = some a) → F a) : TOld o nx N es ks := ⟨hF _ (h2 _ (Or.inl rfl)), fun a ha => hF _ (h2 a (Or.inr (Or.inl ha))), fun e he => hF _ (h2 e (Or.inr (Or.inr (Or.inl he)))), fun e he => hF _ (h2 e (Or.inr (Or.inr (Or.inr he))))⟩
theorem TM.put {ik iv x v : Nat} (hV : 200 ≤ V.2.2.2.2) (h : TM V G o F l) (hF : ∀ a, F a → a < nx) (hl : l.length < 100) (hik : IsInt V G (some ik) x) (hiv : IsInt V G (some iv) v) (hx : x < 128) (hv : v < 128) (hno : ¬ ∃ v, l[lbP l x]? = some (x, v)) :
    wH (hF_J4_put V G nx o (some ik) (some iv)) (fun _ G' c s => c = 1 ∧ s = 6 ∧ TM V G' o (fun a => F a ∨ a = nx) (l.insertIdx (lbP l x) (x, v)) ∧ ∀ b, ¬ F b → b ≠ nx → G' b = G b) := by
  obtain ⟨-, -, hs, -⟩ := h.fo
  obtain ⟨N, kv, vv, ps, mc, es, ks, h1, h2⟩ := h
  refine w_mono (put_new hV h1 (TM.old hF h2) hl hik hiv hx hv (lbP_ok hs) (fun y hy e => hno ⟨y.2, by rw [hy, ← e]⟩)) ?_
  rintro r G' c s ⟨-, q1, q2, q3, q4⟩
  refine ⟨q1, q2, ⟨_, _, _, _, _, _, _, q3, fun a ha => ?_⟩, fun b b1 b2 => q4 b (fun w => b1 (h2 b (Or.inr (Or.inl w)))) (fun w => b1 (h2 b (Or.inl w))) b2⟩
  rcases ha with w | w | w | w
  · exact Or.inl (h2 a (Or.inl w))
  · rcases w with w | w
    · exact Or.inl (h2 a (Or.inr (Or.inl w)))
    · exact Or.inr w
  · exact Or.inl (h2 a (Or.inr (Or.inr (Or.inl w))))
  · exact Or.inl (h2 a (Or.inr (Or.inr (Or.inr w))))
theorem TM.set {ik iv x v p w0 : Nat} (hV : 200 ≤ V.2.2.2.2) (h : TM V G o F l) (hik : IsInt V G (some ik) x) (hiv : IsInt V G (some iv) v) (hx : x < 128) (hv : v < 128) (hpr : l[p]? = some (x, w0)) :
    wH (hF_J4_put V G nx o (some ik) (some iv)) (fun _ G' c s => c = 0 ∧ s = 0 ∧ TM V G' o F (l.set p (x, v)) ∧ ∀ b, ¬ F b → G' b = G b) := by
  obtain ⟨-, -, hs, -⟩ := h.fo
  obtain ⟨N, kv, vv, ps, mc, es, ks, h1, h2⟩ := h
  refine w_mono (put_old hV h1 hik hiv hx hv (LowB.of hs hpr) hpr) ?_
  rintro r G' c s ⟨q1, q2, ⟨vv', q3⟩, q4⟩
  exact ⟨q1, q2, ⟨_, _, _, _, _, _, _, q3, h2⟩, fun b b1 => q4 b (fun w => b1 (h2 b (Or.inr (Or.inl w))))⟩
theorem TM.rem {ik x v p : Nat} (hV : 200 ≤ V.2.2.2.2) (h : TM V G o F l) (hik : IsInt V G (some ik) x) (hx : x < 128) (hpr : l[p]? = some (x, v)) :
    wH (hF_J4_remove V G nx o (some ik)) (fun _ G' c s => c = 0 ∧ s = 0 ∧ TM V G' o F (l.eraseIdx p) ∧ ∀ b, ¬ F b → G' b = G b) := by
  obtain ⟨-, -, hs, -⟩ := h.fo
  obtain ⟨N, kv, vv, ps, mc, es, ks, h1, h2⟩ := h
  obtain ⟨a, e0, e1, e2⟩ := hik
  cases e0
  refine w_mono (tm_remove hV h1 e2 hx (LowB.of hs hpr) hpr) ?_
  rintro r G' c s ⟨q1, q2, ⟨N', kv', vv', ps', q3, q4⟩, q5⟩
  refine ⟨q1, q2, ⟨_, _, _, _, _, _, _, q4, fun a ha => ?_⟩, fun b b1 => q5 b (fun w => b1 (h2 b (Or.inr (Or.inl w)))) (fun w => b1 (h2 b (Or.inl w)))⟩
  rcases ha with w | w | w | w
  · exact h2 a (Or.inl w)
  · exact h2 a (Or.inr (Or.inl (q3 a w)))
  · exact h2 a (Or.inr (Or.inr (Or.inl w)))
  · exact h2 a (Or.inr (Or.inr (Or.inr w)))
theorem TM.new (hb : V.1 ≤ o) (h : G o = some (.inr (10, [.null, .null, .null, .null, .int 0, .int 0, .null, .null, .null]))) : wH (hF_J4_init V G nx o) (fun _ G' c s => c = 0 ∧ s = 0 ∧ TM V G' o (fun a => a = o) [] ∧ ∀ b, b ≠ o → G' b = G b) := by
  refine w_mono (tm_new hb h) ?_
  rintro r G' c s ⟨q1, q2, q3, q4⟩
  refine ⟨q1, q2, ⟨_, _, _, _, _, _, _, q3, fun a ha => ?_⟩, q4⟩
  rcases ha with w | w | w | w
  · exact w
  · exact w.elim
  · cases w
  · cases w
/-- all of one map into a new one -/
theorem TM.putAll {o2 : Nat} {F2 : Nat → Prop} (hV : 200 ≤ V.2.2.2.2) (h : TM V G o F []) (h' : TM V G o2 F2 l) (hF : ∀ a, F a → a < nx) (hF2 : ∀ a, F2 a → a < nx) (hne : o ≠ o2) :
    wH (hF_J4_putAll V G nx o (some o2)) (fun _ G' c s => c ≤ 2 + l.length ∧ s ≤ 5 + 6 * l.length ∧ (∃ e, TM V G' o (fun a => F a ∨ (nx ≤ a ∧ a < nx + c ∧ a ≠ e)) l ∧ TM V G' o2 (fun a => F2 a ∨ (nx ≤ a ∧ a < nx + c ∧ a = e)) l) ∧ ∀ b, b ≠ o → b ≠ o2 → b < nx → G' b = G b) := by
  obtain ⟨N, kv, vv, ps, mc, es, ks, h1, h2⟩ := h
  obtain ⟨N2, kv2, vv2, ps2, mc2, es2, ks2, k1, k2⟩ := h'
  refine w_mono (putAll_at hV h1 k1 (TM.old hF h2) (TM.old hF2 k2) hne) ?_
  rintro r G' c s ⟨q1, q2, ⟨N', kv', vv', ps', mc', q3, q4⟩, ⟨es2', q5, q6⟩, q7⟩
  have nE : ∀ e, es2' = some e → ¬ N' e := fun e he w => by
    obtain ⟨⟨x0, x1, x8, root, lf, rt, pa, co, lo, hi, g1, g2, g3⟩, -⟩ := q3
    have z1 := (q5.2.2.2.2.2.1 e he).1
    have z2 := (g1 e w).1
    rw [z1] at z2; cases z2
  refine ⟨q1, q2, ⟨es2'.getD (nx + c), ⟨_, _, _, _, _, _, _, q3, fun a ha => ?_⟩, ⟨_, _, _, _, _, _, _, q5, fun a ha => ?_⟩⟩, q7⟩
  · rcases ha with w | w | w | w
    · exact Or.inl (h2 a (Or.inl w))
    · by_cases c0 : a = es2'.getD (nx + c)
      · cases e : es2' with
        | none =>
          rw [e] at c0
          have h3 : a = nx + c := c0
          have := q4 a w
          omega
        | some e' =>
          rw [e] at c0
          have h3 : a = e' := c0
          exact absurd (h3 ▸ w) (nE e' e)
      · have := q4 a w
        exact Or.inr ⟨this.1, this.2, c0⟩
    · exact Or.inl (h2 a (Or.inr (Or.inr (Or.inl w))))
    · exact Or.inl (h2 a (Or.inr (Or.inr (Or.inr w))))
  · rcases ha with w | w | w | w
    · exact Or.inl (k2 a (Or.inl w))
    · exact Or.inl (k2 a (Or.inr (Or.inl w)))
    · rcases q6 a w with z | z
      · exact Or.inl (k2 a (Or.inr (Or.inr (Or.inl z))))
      · exact Or.inr ⟨z.1, z.2, by rw [w]; rfl⟩
    · exact Or.inl (k2 a (Or.inr (Or.inr (Or.inr w))))
end X

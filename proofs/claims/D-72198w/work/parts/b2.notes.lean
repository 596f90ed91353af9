/-! PURE 69: what is asked of arguments; RunWatch.notes -/
/-- an argument that is a place among n -/
def iR (a : Int32) (n : Nat) : Option Nat := if ¬ a < 0 ∧ a < nI n then some a.toNatClampNeg else none
theorem iR_some {a : Int32} {n v : Nat} (hn : n < 2 ^ 31) (h : iR a n = some v) : a = nI v ∧ v < n := by
  unfold iR at h
  by_cases c : ¬ a < 0 ∧ a < nI n
  · rw [if_pos c] at h
    cases h
    obtain ⟨c1, c2⟩ := c
    rw [Int32.lt_iff_toInt_lt] at c1 c2
    have e0 : (0 : Int32).toInt = 0 := by decide
    rw [e0] at c1
    rw [nI_toInt hn] at c2
    have e1 : a.toNatClampNeg = a.toInt.toNat := rfl
    have hv : a.toNatClampNeg < n := by rw [e1]; omega
    refine ⟨?_, hv⟩
    apply Int32.toInt.inj
    rw [nI_toInt (by omega), e1]
    omega
  · rw [if_neg c] at h; cases h
theorem iR_none {a : Int32} {n : Nat} (h : iR a n = none) : a < 0 ∨ ¬ a < nI n := by
  unfold iR at h
  by_cases c : ¬ a < 0 ∧ a < nI n
  · rw [if_pos c] at h; cases h
  · by_cases c1 : a < 0
    · exact Or.inl c1
    · exact Or.inr (fun c2 => c ⟨c1, c2⟩)
theorem iR_lt {v n : Nat} (hn : n < 2 ^ 31) (h : v < n) : iR (nI v) n = some v := by
  unfold iR
  have hv : v < 2 ^ 31 := by omega
  rw [if_pos ⟨nI_pos hv, nI_lt h (by omega)⟩, nI_clamp hv]
theorem le_pred {a : Int32} {n : Nat} (hn : n < 2 ^ 31) (ha : ¬ a < 0) : (nI n - 1 < a) ↔ ¬ a < nI n := by
  have e0 : (0 : Int32).toInt = 0 := by decide
  rw [Int32.lt_iff_toInt_lt, e0] at ha
  rw [Int32.lt_iff_toInt_lt, Int32.lt_iff_toInt_lt, nI_toInt hn]
  cases n with
  | zero =>
    have : (nI 0 - 1).toInt = -1 := by decide
    rw [this]
    omega
  | succ n =>
    have : nI (n + 1) - 1 = nI n := by
      have := nI_sub (a := n + 1) (b := 1) (by omega)
      exact this
    rw [this, nI_toInt (by omega)]
    omega
section X
variable {V : HEn} {G : Gh} {nx : Nat}
theorem nar_b (o : Option Nat) : vp_nar .boolean (if o.isSome then 1 else 0) = (if o.isSome then 1 else 0) := by
  cases o with
  | none => decide
  | some v => show vp_nar .boolean 1 = 1; decide
theorem isIn_at {a : Int32} {n : Nat} (hn : n < 2 ^ 31) : hF_X0_isIn V G nx a 0 (nI n - 1) = some (if (iR a n).isSome then 1 else 0, G, 0, 0) := by
  unfold hF_X0_isIn hB_X0_isIn_14 hB_X0_isIn_15
  cases e : iR a n with
  | none =>
    have h := iR_none e
    by_cases c : a < 0
    · rw [if_pos c, if_pos (by decide)]; rfl
    · rw [if_neg c]
      rcases h with w | w
      · exact absurd w c
      · rw [if_pos ((le_pred hn c).mpr w), if_pos (by decide)]; rfl
  | some v =>
    unfold iR at e
    by_cases c : ¬ a < 0 ∧ a < nI n
    · rw [if_neg c.1, if_neg (fun z => (le_pred hn c.1).mp z c.2), if_pos (by decide)]; rfl
    · rw [if_neg c] at e; cases e
theorem isSign_at {a : Int32} : hF_X0_isSign V G nx a = some (if (iR a 5).isSome then 1 else 0, G, 0, 0) := by
  unfold hF_X0_isSign
  have h := isIn_at (V := V) (G := G) (nx := nx) (a := a) (n := 5) (by decide)
  have e : (4 : Int32) = nI 5 - 1 := by decide
  rw [e, h]
  show tick 0 0 (if vp_nar .boolean (if (iR a 5).isSome then 1 else 0) = (if (iR a 5).isSome then 1 else 0) then some (_, G, 0, 0) else none) = _
  rw [if_pos (nar_b _)]
  rfl
theorem isRow_at {a : Int32} {xo d0 da dm ia ro tx d : Nat} {st : Nat × Nat × Nat} {l : List (Option Nat)} (hX : G xo = some (xcell d0 da dm ia ro st tx)) (hA : AL V G ro d l) : hF_X0_isRow V G nx xo a = some (if (iR a l.length).isSome then 1 else 0, G, 0, 0) := by
  have hl : l.length < 2 ^ 31 := by
    obtain ⟨m, n, f, h1, h2, h3, h4, h5, h6, h7, h8⟩ := hA
    omega
  have hw : wH (hF_X0_isRow V G nx xo a) (fun q G' c s' => q = (if (iR a l.length).isSome then 1 else 0) ∧ G' = G ∧ c = 0 ∧ s' = 0) := by
    unfold hF_X0_isRow
    refine w_xR hX rfl rfl (w_some (w_pos (by obtain ⟨ml, nn, ff, z, -⟩ := hA; exact gC_at z) (w_call0 (al_size hA) (w_call0 (isIn_at hl) ?_))))
    exact w_pos (nar_b _) (w_ret ⟨rfl, rfl, rfl, rfl⟩)
  obtain ⟨q, G', c, s', e, rfl, rfl, rfl, rfl⟩ := hw
  exact e
/-- desks one place down -/
theorem cpR_dn {b0 : Nat} {ar : Nat → ClassId} {cA : ClassId} {a : Nat} {f : Nat → Option Nat} {L : List Nat} (h : G a = some (.inl (cA, 6, .inr (.inr (.inr (.inr f)))))) (hb : b0 ≤ a) (hok : ∀ i, i < 5 → gokA G ar (f (1 + i)) L = true) : cpR b0 G ar cA a 1 a 0 5 L = some (gset G a (.inl (cA, 6, .inr (.inr (.inr (.inr (va_cpy f f 1 0 5))))))) := by
  unfold cpR
  rw [h]
  simp only
  have e1 : (1 : Int32).toNatClampNeg = 1 := by decide
  have e0 : (0 : Int32).toNatClampNeg = 0 := by decide
  have e5 : (5 : Int32).toNatClampNeg = 5 := by decide
  rw [e1, e0, e5, if_pos]
  refine ⟨trivial, trivial, hb, by decide, by decide, by decide, by decide, by decide, ?_⟩
  rw [List.all_eq_true]
  intro i hi
  exact hok i (List.mem_range.mp hi)
end X
def noteL {α : Type} (p : List α) (k : α) : List α := (if p.length = 6 then p.drop 1 else p) ++ [k]
section X
variable {V : HEn} {G : Gh} {nx xo d0 da ia ro rd tx : Nat} {tg : Nat → Nat} {st : Nat × Nat × Nat} {k0 : Dk} {pl : List (Nat × Dk)} {i0 i1 : Option (Nat × Dk)} {txt : List Nat} {U : Nat → Prop}
/-- only x itself and its rows of desks change -/
theorem Wc.setx {G' : Gh} {d0' : Nat} {st' : Nat × Nat × Nat} {k0' : Dk} {pl' : List (Nat × Dk)} {i0' i1' : Option (Nat × Dk)} {fd fi : Nat → Option Nat} (h : Wc V G nx xo tg d0 da ia ro rd tx st k0 pl i0 i1 txt U) (hk : ∀ b, b ≠ xo → b ≠ da → b ≠ ia → G' b = G b) (hX : G' xo = some (xcell d0' da pl'.length ia ro st' tx)) (hda : G' da = some (.inl (V.2.1 5, 6, .inr (.inr (.inr (.inr fd)))))) (hfd : ∀ i (h : i < pl'.length), fd i = some (pl'[i]).1) (hia : G' ia = some (.inl (V.2.1 5, 2, .inr (.inr (.inr (.inr fi)))))) (hf0 : fi 0 = i0'.map Prod.fst) (hf1 : fi 1 = i1'.map Prod.fst) (hds : ∀ e ∈ dsk d0' k0' pl' i0' i1', DkA V G tg U e.1 e.2 ∧ DkOk e.2) (hnd : ((dsk d0' k0' pl' i0' i1').map Prod.fst).Nodup) (hpl : pl'.length ≤ 6) : Wc V G' nx xo tg d0' da ia ro rd tx st' k0' pl' i0' i1' txt U := by
  obtain ⟨hx0, hr0, ht0, rx, txx, txr, rdx, rdr, dax, iax, ⟨fro, hro⟩, ⟨ftx, htx⟩, -⟩ := h.heads
  obtain ⟨⟨a1, a2, a3, a4, a5⟩, b1, ⟨c1, c2, c3⟩, ⟨fd, d1, d2, d3⟩, ⟨fi, e1, e2, e3, e4⟩, da1, ⟨⟨rl, f1⟩, f2, f3⟩, ⟨td, tn, g1, g2, g3, g4, g5⟩, h1, h2, h3⟩ := h
  have fr : ∀ a, tg a ≠ xo → G' a = G a := fun a w => hk a (fun e => w (by rw [e]; exact c2)) (fun e => w (by rw [e]; exact d2)) (fun e => w (by rw [e]; exact e2))
  have fc : ∀ a, a < V.1 → G' a = G a := fun a ha => fr a (fun w => by have := (b1 a (by rw [w]; exact hx0)).1; omega)
  refine ⟨⟨a1, a2, a3.keep fc, a4.keep fc, a5.keep fc⟩, b1, ⟨hX, c2, c3⟩, ⟨_, hda, d2, hfd⟩, ⟨_, hia, e2, hf0, hf1⟩, da1, ⟨⟨rl, f1.keep (fr ro (by rw [f2]; exact rx)) ?_⟩, f2, f3⟩, ⟨td, tn, g1.keep (fr tx (by rw [g2]; exact txx)) (fr td (by rw [g3]; exact txx)), g2, g3, g4, g5⟩, fun e he => ⟨?_, (hds e he).2⟩, hnd, hpl⟩
  · rcases f3 with w | w
    · exact fr rd (by rw [w]; exact rx)
    · exact fc rd w
  · obtain ⟨po, to, q1, q2, q3, q4⟩ := id (hds e he).1
    refine (hds e he).1.move (T := fun t => t = xo) a1 (fun a w1 w2 => ⟨rfl, fr a w2⟩) ?_ ?_ fc (fun q w => w)
    · exact hd_ne q1 c1 (by decide)
    · rintro q fs w hq
      rw [w, c1] at hq; cases hq
end X

/-! PURE 64: plans, desks, what goes on: plain; in the heap -/
/-- a plan: rules, chances, slack, limit -/
abbrev Pn := List Ru × List Nat × Nat × Nat
/-- a desk: its plan, its rows (time, sign) -/
abbrev Dk := Pn × List (Nat × Nat)
def PnOk (p : Pn) : Prop := RsOk p.1 ∧ p.2.1.length = 5 ∧ p.2.1.sum = 10 ∧ p.2.2.1 ≤ 2 ∧ 1 ≤ p.2.2.2 ∧ p.2.2.2 ≤ 9
def DkOk (d : Dk) : Prop := PnOk d.1 ∧ Srt d.2 ∧ d.2.length ≤ 40 ∧ ∀ y ∈ d.2, y.1 ≤ 99 ∧ y.2 ≤ 4
/-- a row that is gone through: time, sign, met, packed, up, down, signal -/
abbrev Rw := Nat × Nat × Nat × Nat × Nat × Nat × Nat
def gRow (p : Pn) (st : Nat × Nat × Nat) (y : Nat × Nat) : Rw :=
  let m := pM p.1 st.1 y.2
  let q := if m = 0 then pB p.1 st.1 y.2 else 0
  let u := st.2.1 + y.2 - (2 + p.2.2.1)
  let d := st.2.2 + 2 - (y.2 + p.2.2.1)
  let g := if u ≤ p.2.2.2 ∧ d ≤ p.2.2.2 then 0 else 1
  (y.1, y.2, m, q, if g = 0 then u else 0, if g = 0 then d else 0, g)
def rSt (r : Rw) : Nat × Nat × Nat := (r.2.2.2.1, r.2.2.2.2.1, r.2.2.2.2.2.1)
def gRows (p : Pn) : Nat × Nat × Nat → List (Nat × Nat) → List Rw
  | _, [] => []
  | st, y :: t => gRow p st y :: gRows p (rSt (gRow p st y)) t
def gLast (p : Pn) : Nat × Nat × Nat → List (Nat × Nat) → Nat × Nat × Nat
  | st, [] => st
  | st, y :: t => gLast p (rSt (gRow p st y)) t
theorem gRows_len (p : Pn) : ∀ (l : List (Nat × Nat)) (st : Nat × Nat × Nat), (gRows p st l).length = l.length
  | [], _ => rfl
  | y :: t, st => by rw [gRows, List.length_cons, List.length_cons, gRows_len p t]
/-- what stands between two rows -/
def StOk (p : Pn) (st : Nat × Nat × Nat) : Prop := st.1 ∈ plcs p.1 ∧ st.2.1 ≤ 9 ∧ st.2.2 ≤ 9
theorem plcs_next {rs : List Ru} (h : bks rs ≤ 6) {q s : Nat} (hq : q ∈ plcs rs) (hs : s < 5) (h0 : pM rs q s = 0) : pB rs q s ∈ plcs rs := by
  obtain ⟨p1, p2, p3, p4, p5⟩ := plcs_ok h
  obtain ⟨i, hi, e⟩ := List.getElem_of_mem hq
  have := p5 i hi s hs (by rw [e]; exact h0)
  rw [e] at this
  exact this
theorem plcs_zero {rs : List Ru} (h : bks rs ≤ 6) : 0 ∈ plcs rs := List.mem_of_getElem? (plcs_ok h).2.2.1
theorem gRow_ok {p : Pn} (hp : PnOk p) {st : Nat × Nat × Nat} {y : Nat × Nat} (h : StOk p st) (hy : y.2 ≤ 4) : StOk p (rSt (gRow p st y)) ∧ (gRow p st y).2.2.1 < 8 ∧ (gRow p st y).2.2.2.2.2.2 ≤ 1 := by
  obtain ⟨h1, h2, h3⟩ := h
  obtain ⟨⟨r1, r2, r3⟩, p2, p3, p4, p5, p6⟩ := hp
  have hm := pM_lt p.1 st.1 y.2
  have hm3 : 2 ^ p.1.length ≤ 2 ^ 3 := Nat.pow_le_pow_right (by decide) r2
  refine ⟨⟨?_, ?_, ?_⟩, ?_, ?_⟩
  · show (if pM p.1 st.1 y.2 = 0 then pB p.1 st.1 y.2 else 0) ∈ plcs p.1
    split
    · rename_i c
      exact plcs_next r3 h1 (by omega) c
    · exact plcs_zero r3
  · show (if (if _ then 0 else 1) = 0 then st.2.1 + y.2 - (2 + p.2.2.1) else 0) ≤ 9
    split
    · rename_i c
      rw [if_pos rfl]; omega
    · rw [if_neg (by decide)]; omega
  · show (if (if _ then 0 else 1) = 0 then st.2.2 + 2 - (y.2 + p.2.2.1) else 0) ≤ 9
    split
    · rename_i c
      rw [if_pos rfl]; omega
    · rw [if_neg (by decide)]; omega
  · show pM p.1 st.1 y.2 < 8
    omega
  · show (if _ then 0 else 1) ≤ 1
    split <;> omega
theorem gLast_ok {p : Pn} (hp : PnOk p) : ∀ {l : List (Nat × Nat)} {st : Nat × Nat × Nat}, StOk p st → (∀ y ∈ l, y.2 ≤ 4) → StOk p (gLast p st l)
  | [], _, h, _ => h
  | y :: t, st, h, hl => gLast_ok (l := t) hp (gRow_ok hp h (hl y (by simp))).1 (fun z hz => hl z (by simp [hz]))
theorem st0_ok {p : Pn} (hp : PnOk p) : StOk p (0, 0, 0) := ⟨plcs_zero hp.1.2.2, Nat.zero_le _, Nat.zero_le _⟩
theorem gRows_ok {p : Pn} (hp : PnOk p) : ∀ {l : List (Nat × Nat)} {st : Nat × Nat × Nat}, StOk p st → (∀ y ∈ l, y.2 ≤ 4) → ∀ r ∈ gRows p st l, StOk p (rSt r) ∧ r.2.2.1 < 8 ∧ r.2.2.2.2.2.2 ≤ 1
  | [], _, _, _, r, hr => by simp [gRows] at hr
  | y :: t, st, h, hl, r, hr => by
    have g := gRow_ok hp h (hl y (by simp))
    rw [gRows] at hr
    rcases List.mem_cons.mp hr with e | e
    · rw [e]; exact g
    · exact gRows_ok (l := t) hp g.1 (fun z hz => hl z (by simp [hz])) r e
theorem gRows_get {p : Pn} : ∀ {l : List (Nat × Nat)} {st : Nat × Nat × Nat} {i : Nat} {y : Nat × Nat}, l[i]? = some y → ∃ r, (gRows p st l)[i]? = some r ∧ r.1 = y.1 ∧ r.2.1 = y.2
  | [], _, i, y, h => by simp at h
  | z :: t, st, 0, y, h => by
    simp at h
    subst h
    exact ⟨_, rfl, rfl, rfl⟩
  | z :: t, st, i + 1, y, h => by
    simp at h
    obtain ⟨r, h1, h2⟩ := gRows_get (p := p) (l := t) (st := rSt (gRow p st z)) h
    exact ⟨r, by rw [gRows]; simpa using h1, h2⟩
abbrev pcell (lo ch : Nat) (p : Pn) (mc : Option Nat) : va_E := .inr (2, [va_rf (some lo), va_rf (some ch), .int (nI p.2.2.1), .int (nI p.2.2.2), va_rf mc])
/-- a plan in the heap; U: those whose machine isn't made -/
def PlA (V : HEn) (G : Gh) (tg : Nat → Nat) (U : Nat → Prop) (po : Nat) (p : Pn) : Prop := ∃ (lo ld : Nat) (ad : List Nat) (ch : Nat) (mc : Option Nat) (f : Nat → Int32), G po = some (pcell lo ch p mc) ∧ RL V G lo ld ad p.1 ∧ G ch = some (.inl (V.2.1 0, 5, .inl f)) ∧ (∀ i, i < 5 → f i = nI (p.2.1.getD i 0)) ∧ tg po = po ∧ tg lo = po ∧ (tg ld = po ∨ ld < V.1) ∧ (∀ a ∈ ad, tg a = po) ∧ tg ch = po ∧ V.1 ≤ po ∧ ((mc = none ∧ U po) ∨ ∃ mo, mc = some mo ∧ MAt V G mo p.1 (fun a => tg a = po ∧ a ≠ po))
/-- a desk in the heap -/
def DkA (V : HEn) (G : Gh) (tg : Nat → Nat) (U : Nat → Prop) (d : Nat) (k : Dk) : Prop := ∃ po to, G d = some (.inr (1, [va_rf (some po), va_rf (some to)])) ∧ tg d = d ∧ V.1 ≤ d ∧ TM V G to (fun a => tg a = d ∧ a ≠ d) k.2 ∧ PlA V G tg U po k.1
section X
variable {V : HEn} {G G' : Gh} {tg tg' : Nat → Nat} {U U' T : Nat → Prop} {po d : Nat} {p : Pn} {k : Dk}
theorem PlA.move (h : PlA V G tg U po p) (h0 : 0 < V.1) (hT : ∀ a, tg a = po → tg' a = po ∧ G' a = G a) (hc : ∀ a, a < V.1 → G' a = G a) (hU : U po → U' po) : PlA V G' tg' U' po p := by
  obtain ⟨lo, ld, ad, ch, mc, f, h1, h2, h3, h4, h5, h6, h7, h8, h9, h10, h11⟩ := h
  refine ⟨lo, ld, ad, ch, mc, f, (hT _ h5).2.trans h1, h2.keep (hT _ h6).2 ?_ (fun a ha => (hT _ (h8 a ha)).2), (hT _ h9).2.trans h3, h4, (hT _ h5).1, (hT _ h6).1, ?_, fun a ha => (hT _ (h8 a ha)).1, (hT _ h9).1, h10, ?_⟩
  · rcases h7 with w | w
    · exact (hT _ w).2
    · exact hc _ w
  · rcases h7 with w | w
    · exact Or.inl (hT _ w).1
    · exact Or.inr w
  · rcases h11 with ⟨w1, w2⟩ | ⟨mo, w1, w2⟩
    · exact Or.inl ⟨w1, hU w2⟩
    · exact Or.inr ⟨mo, w1, (w2.keep (fun a ha => (hT a ha.1).2) hc).mono (fun a ha => ⟨(hT a ha.1).1, ha.2⟩)⟩
theorem DkA.move (h : DkA V G tg U d k) (h0 : 0 < V.1) (hT : ∀ a, tg a ≠ 0 → ¬ T (tg a) → tg' a = tg a ∧ G' a = G a) (hd : ¬ T d) (hp : ∀ q fs, T q → G q ≠ some (.inr (2, fs))) (hc : ∀ a, a < V.1 → G' a = G a) (hU : ∀ q, U q → U' q) : DkA V G' tg' U' d k := by
  obtain ⟨po, to, h1, h2, h3, h4, h5⟩ := h
  have hpo : V.1 ≤ po ∧ ¬ T po := by
    obtain ⟨lo, ld, ad, ch, mc, f, q1, q2, q3, q4, q5, q6, q7, q8, q9, q10, q11⟩ := h5
    exact ⟨q10, fun w => hp _ _ w q1⟩
  have kd : ∀ a, tg a = d → tg' a = d ∧ G' a = G a := fun a ha => by
    have := hT a (by omega) (by rw [ha]; exact hd)
    exact ⟨this.1.trans ha, this.2⟩
  have kp : ∀ a, tg a = po → tg' a = po ∧ G' a = G a := fun a ha => by
    have := hT a (by omega) (by rw [ha]; exact hpo.2)
    exact ⟨this.1.trans ha, this.2⟩
  exact ⟨po, to, (kd _ h2).2.trans h1, (kd _ h2).1, h3, (h4.keep (fun a ha => (kd a ha.1).2) hc).mono (fun a ha => ⟨(kd a ha.1).1, ha.2⟩), h5.move h0 kp hc (hU po)⟩
theorem DkA.gC (h : DkA V G tg U d k) : gC G d 1 = true := by
  obtain ⟨po, to, h1, -⟩ := h
  exact gC_at h1
theorem nI_inj {a b : Nat} (ha : a < 2 ^ 31) (hb : b < 2 ^ 31) (h : nI a = nI b) : a = b := (nI_eq ha hb).mp h
theorem Value.int_inj' {x y : Int32} (h : Value.int x = Value.int y) : x = y := by cases h; rfl
theorem va_rf_inj {a b : Nat} (h : va_rf (some a) = va_rf (some b)) : a = b := by
  have : Value.ref a = Value.ref b := h
  cases this; rfl
theorem AL.uniq {o d d' : Nat} {l l' : List (Option Nat)} (h : AL V G o d l) (h' : AL V G o d' l') : d = d' ∧ l = l' := by
  obtain ⟨m, n, f, h1, h2, h3, h4, h5, h6, h7, h8⟩ := h
  obtain ⟨m', n', f', k1, k2, k3, k4, k5, k6, k7, k8⟩ := h'
  rw [h1] at k1
  simp only [Option.some.injEq, Sum.inr.injEq, Prod.mk.injEq, List.cons.injEq, true_and, and_true] at k1
  obtain ⟨-, e1, e2⟩ := k1
  have ed := va_rf_inj e1
  subst ed
  have el := nI_inj (by omega) (by omega) (Value.int_inj' e2)
  rw [h2] at k2
  simp only [Option.some.injEq, Sum.inl.injEq, Prod.mk.injEq, Sum.inr.injEq, true_and] at k2
  obtain ⟨-, ef⟩ := k2
  subst ef
  refine ⟨rfl, List.ext_getElem el (fun i hi hi' => ?_)⟩
  rw [← h4 i hi, ← k4 i hi']
theorem RuAt.uniq {a : Nat} {r r' : Ru} (h : RuAt G a r) (h' : RuAt G a r') : r = r' := by
  obtain ⟨h1, o1, o2, o3, o4, o5⟩ := h
  obtain ⟨k1, p1, p2, p3, p4, p5⟩ := h'
  rw [h1] at k1
  simp only [Option.some.injEq, Sum.inr.injEq, Prod.mk.injEq, List.cons.injEq, true_and, and_true] at k1
  obtain ⟨e1, e2, e3⟩ := k1
  have a1 := nI_inj (by omega) (by omega) (Value.int_inj' e1)
  have a2 := nI_inj (by omega) (by omega) (Value.int_inj' e2)
  have a3 := nI_inj (by omega) (by omega) (Value.int_inj' e3)
  obtain ⟨x, y, z⟩ := r
  obtain ⟨x', y', z'⟩ := r'
  simp only at a1 a2 a3
  rw [a1, a2, a3]
theorem RL.uniq {lo ld ld' : Nat} {ad ad' : List Nat} {rs rs' : List Ru} (h : RL V G lo ld ad rs) (h' : RL V G lo ld' ad' rs') : rs = rs' := by
  obtain ⟨h1, h2, h3, h4, h5⟩ := h
  obtain ⟨k1, k2, k3, k4, k5⟩ := h'
  obtain ⟨-, e⟩ := h1.uniq k1
  have ea : ad = ad' := by
    have hl : ad.length = ad'.length := by
      have := congrArg List.length e
      simpa using this
    refine List.ext_getElem hl (fun i hi hi' => ?_)
    have := congrArg (fun l => l[i]?) e
    simp [hi, hi'] at this
    exact this
  subst ea
  refine List.ext_getElem (by omega) (fun i hi hi' => ?_)
  exact (h5 i (by omega) hi).uniq (k5 i (by omega) hi')
end X

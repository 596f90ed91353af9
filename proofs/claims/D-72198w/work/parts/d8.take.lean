/-! PURE 95: Reader.takes, Reader.rule -/
/-- a Reader whose token is t -/
def RdF (V : HEn) (G : Gh) (nx ro so sd po it on : Nat) (l : List Nat) (t : Tk) : Prop := RdW V G nx ro so sd po t.2.2.2 t.1 (tkN t) it on l (tkW t) ∧ StC V G ∧ V.1 ≤ ro ∧ ro < so ∧ so < sd ∧ sd < nx ∧ l.length ≤ 120 ∧ t.2.2.2 ≤ l.length ∧ t.1 ≤ l.length ∧ t.2.2.1 ≤ 99 ∧ t.2.1 ≠ 6
/-- a fault is thrown, told as b -/
def FtQ (nx b : Nat) (r : Option Nat) (G' : Gh) (c : Nat) : Prop := ∃ q, r = some q ∧ nx ≤ q ∧ q < nx + c ∧ FtA G' q b
def nuI (t : Tk) (lo hi : Nat) : Bool := decide (t.2.1 = 1 ∧ lo ≤ t.2.2.1 ∧ t.2.2.1 ≤ hi)
def rgt {α : Type} (r : α ⊕ Nat) : Option Nat := match r with
  | .inl _ => none
  | .inr q => some q
section X
variable {V : HEn} {G G' : Gh} {nx nx' ro so sd po it on : Nat} {l : List Nat} {t : Tk}
/-- cells that are none of the Reader's change -/
theorem RdF.upd {X : Nat → Prop} (h : RdF V G nx ro so sd po it on l t) (hn : nx ≤ nx') (hX : ∀ x, X x → V.1 ≤ x ∧ x ≠ ro ∧ x ≠ so ∧ x ≠ sd) (hw : ∀ x, X x → ∀ wo wd, Str V G wo wd (tkW t) True → x ≠ wo ∧ x ≠ wd) (hk : ∀ b, b < nx → ¬ X b → G' b = G b) : RdF V G' nx' ro so sd po it on l t := by
  obtain ⟨⟨wo, wd, h1, h2, h3, h4, h5, h6, h7⟩, g1, g2, g3, g4, g5, g6, g7, g8, g9, g10⟩ := h
  have k1 : G' ro = G ro := hk ro (by omega) (fun w => (hX ro w).2.1 rfl)
  have k2 : G' so = G so := hk so (by omega) (fun w => (hX so w).2.2.1 rfl)
  have k3 : G' sd = G sd := hk sd (by omega) (fun w => (hX sd w).2.2.2 rfl)
  exact ⟨⟨wo, wd, k1.trans h1, h2.keep k2 k3, h3.keep (hk wo h4 (fun w => (hw wo w wo wd h3).1 rfl)) (hk wd h5 (fun w => (hw wd w wo wd h3).2 rfl)), by omega, by omega, h6, h7⟩, g1.keep (fun a ha => hk a (by omega) (fun w => by have := (hX a w).1; omega)), g2, g3, g4, by omega, g6, g7, g8, g9, g10⟩
/-- objects of other classes are none of a text's cells -/
theorem Str.ne_obj {x c : Nat} {fs : List Value} {wo wd : Nat} {w : List Nat} {st : Prop} (h : Str V G wo wd w st) (hx : G x = some (.inr (c, fs))) (hc : c ≠ 25) : x ≠ wo ∧ x ≠ wd := by
  obtain ⟨f, a, z, h1, h2, -⟩ := h
  exact ⟨hd_ne hx h1 hc, hd_na hx h2⟩
theorem Str.ne_row {x n : Nat} {cA : ClassId} {y} {wo wd : Nat} {w : List Nat} {st : Prop} (h : Str V G wo wd w st) (hx : G x = some (.inl (cA, n, y))) (hy : n ≠ w.length ∨ ∃ r, y = .inr r) : x ≠ wo ∧ x ≠ wd := by
  obtain ⟨f, a, z, h1, h2, -⟩ := h
  refine ⟨fun e => ?_, fun e => ?_⟩
  · rw [e, h1] at hx; cases hx
  · rw [e, h2] at hx
    simp only [Option.some.injEq, Sum.inl.injEq, Prod.mk.injEq] at hx
    rcases hy with w | ⟨r, w⟩
    · exact w hx.2.1.symm
    · rw [w] at hx
      cases hx.2.2
theorem RdF.low (h : RdF V G nx ro so sd po it on l t) (hn : nx ≤ nx') (hk : ∀ b, b < nx → G' b = G b) : RdF V G' nx' ro so sd po it on l t := by
  obtain ⟨⟨wo, wd, h1, h2, h3, h4, h5, h6, h7⟩, g1, g2, g3, g4, g5, g6, g7, g8, g9, g10⟩ := h
  exact ⟨⟨wo, wd, (hk ro (by omega)).trans h1, h2.keep (hk so (by omega)) (hk sd (by omega)), h3.keep (hk wo h4) (hk wd h5), by omega, by omega, h6, h7⟩, g1.keep (fun a ha => hk a (by omega)), g2, g3, g4, by omega, g6, g7, g8, g9, g10⟩
theorem RdF.b (h : RdF V G nx ro so sd po it on l t) : ∃ wo, RdB V G nx ro so sd po t.2.2.2 t.1 wo (tkN t) it on l := by
  obtain ⟨⟨wo, wd, h1, h2, h3, h4, h5, h6, h7⟩, g1, g2, g3, g4, g5, g6, g7, g8, g9, g10⟩ := h
  exact ⟨wo, h1, h2, g1, g2, by omega, by omega, by omega, by omega, by omega, by omega, g6⟩
theorem RdF.cell (h : RdF V G nx ro so sd po it on l t) : ∃ wo, G ro = some (rdc so po t.2.2.2 t.1 wo (tkN t) it on) := by
  obtain ⟨⟨wo, wd, h1, -⟩, -⟩ := h
  exact ⟨wo, h1⟩
theorem next_f (hV : 1200 ≤ V.2.2.2.2) (h : RdF V G nx ro so sd po it on l t) : wH (hF_X4_next V G nx ro) (fun r G' c s => c ≤ 3 ∧ s ≤ 140 ∧ (∀ b, b < nx → b ≠ ro → b ≠ so → G' b = G b) ∧ (((lexT l t.2.2.2).2.1 ≠ 6 ∧ r = .inl () ∧ RdF V G' (nx + c) ro so sd po it on l (lexT l t.2.2.2)) ∨ ((lexT l t.2.2.2).2.1 = 6 ∧ FtQ nx (lexT l t.2.2.2).1 (rgt r) G' c))) := by
  obtain ⟨wo, hB⟩ := h.b
  obtain ⟨-, g1, g2, g3, g4, g5, g6, g7, g8, g9, g10⟩ := h
  obtain ⟨e1, e2, e3⟩ := lexT_le (l := l) g7
  refine w_mono (next_at hV g7 hB) ?_
  rintro r G' c s ⟨q1, q2, q3, q4⟩
  refine ⟨q1, q2, q3, ?_⟩
  rcases q4 with ⟨c1, rfl, c3⟩ | ⟨c1, q, rfl, c3, c4, c5⟩
  · exact Or.inl ⟨c1, rfl, c3, g1.keep (fun a ha => q3 a (by omega) (by omega) (by omega)), g2, g3, g4, by omega, g6, e1, e2, e3, c1⟩
  · exact Or.inr ⟨c1, q, rfl, c3, c4, c5⟩
theorem isIn_tk {lo hi : Nat} (h : RdF V G nx ro so sd po it on l t) (hlo : lo < 2 ^ 31) (hhi : hi < 2 ^ 31) : hF_X0_isIn V G nx (tkN t) (nI lo) (nI hi) = some (if nuI t lo hi then 1 else 0, G, 0, 0) := by
  have h99 := h.2.2.2.2.2.2.2.2.2.1
  unfold nuI tkN
  by_cases c : t.2.1 = 1
  · rw [if_pos c, isIn_N (by omega) hlo hhi]
    by_cases c2 : lo ≤ t.2.2.1 ∧ t.2.2.1 ≤ hi
    · rw [if_pos c2, if_pos (by simp [c, c2])]
    · rw [if_neg c2, if_neg (by simp only [decide_eq_true_eq]; exact fun z => c2 z.2)]
  · rw [if_neg c]
    unfold hF_X0_isIn hB_X0_isIn_14 hB_X0_isIn_15
    have : (-9 : Int32) < nI lo := by
      rw [Int32.lt_iff_toInt_lt, nI_toInt hlo, show (-9 : Int32).toInt = -9 from by decide]
      omega
    rw [if_pos this, if_pos (by decide), if_neg (by simp [c])]
theorem takes_f {lo hi : Nat} (hV : 1200 ≤ V.2.2.2.2) (h : RdF V G nx ro so sd po it on l t) (hlo : lo < 2 ^ 31) (hhi : hi < 2 ^ 31) : wH (hF_X4_takes V G nx ro (nI lo) (nI hi)) (fun r G' c s => c ≤ 3 ∧ s ≤ 140 ∧ (∀ b, b < nx → b ≠ ro → b ≠ so → G' b = G b) ∧ ((nuI t lo hi = true ∧ (lexT l t.2.2.2).2.1 ≠ 6 ∧ r = .inl (nI t.2.2.1) ∧ RdF V G' (nx + c) ro so sd po it on l (lexT l t.2.2.2)) ∨ (nuI t lo hi = true ∧ (lexT l t.2.2.2).2.1 = 6 ∧ FtQ nx (lexT l t.2.2.2).1 (rgt r) G' c) ∨ (nuI t lo hi = false ∧ FtQ nx t.1 (rgt r) G' c))) := by
  obtain ⟨wo, h1⟩ := h.cell
  have hro : ro < nx := by obtain ⟨-, g1, g2, g3, g4, g5, -⟩ := h; omega
  have hb : V.1 ≤ nx := by obtain ⟨-, g1, g2, g3, g4, g5, -⟩ := h; omega
  unfold hF_X4_takes
  refine w_xI h1 rfl rfl (w_call0 (isIn_tk h hlo hhi) (w_pos (gC_at h1) ?_))
  cases e : nuI t lo hi with
  | false =>
    refine w_xB (wants_no h1 hro hb) ?_ ?_
    · rintro r G1 c s ⟨q1, -⟩
      cases q1
    · rintro q G1 c s ⟨q1, q2, q3, q4, q5⟩
      cases q1
      exact ⟨by omega, by omega, fun b b1 _ _ => q5 b b1, Or.inr (Or.inr ⟨rfl, nx, rfl, Nat.le_refl _, by omega, q4⟩)⟩
  | true =>
    have en : tkN t = nI t.2.2.1 := by unfold tkN; rw [if_pos (of_decide_eq_true e).1]
    refine w_callE (wants_yes (by decide)) (w_xI h1 rfl rfl (w_pos (gC_at h1) (w_xB (next_f hV h) ?_ ?_)))
    · rintro r G1 c s ⟨q1, q2, q3, q4⟩
      rcases q4 with ⟨c1, -, c3⟩ | ⟨c1, q, c2, -⟩
      · refine w_ret ⟨by omega, by omega, q3, Or.inl ⟨rfl, c1, by rw [en], ?_⟩⟩
        rw [show nx + (0 + (c + 0)) = nx + c by omega]; exact c3
      · cases c2
    · rintro q G1 c s ⟨q1, q2, q3, q4⟩
      refine ⟨by omega, by omega, q3, Or.inr (Or.inl ⟨rfl, ?_⟩)⟩
      rcases q4 with ⟨-, c2, -⟩ | ⟨c1, q', c2, c3, c4, c5⟩
      · cases c2
      · exact ⟨c1, q', c2, c3, by omega, c5⟩
/-- the plan that is read -/
def RPl (V : HEn) (G : Gh) (nx sd po : Nat) (p : Pn) : Prop := ∃ (lo ld : Nat) (ad : List Nat) (ch : Nat) (f : Nat → Int32), G po = some (pcell lo ch p none) ∧ RL V G lo ld ad p.1 ∧ G ch = some (.inl (V.2.1 0, 5, .inl f)) ∧ (∀ i, i < 5 → f i = nI (p.2.1.getD i 0)) ∧ sd < po ∧ po < nx ∧ sd < lo ∧ lo < nx ∧ (ld < V.1 ∨ sd < ld ∧ ld < nx) ∧ (∀ a ∈ ad, sd < a ∧ a < nx) ∧ sd < ch ∧ ch < nx
theorem RPl.keep {p : Pn} (h : RPl V G nx sd po p) (hn : nx ≤ nx') (hk : ∀ b, b < nx → (b < V.1 ∨ sd < b) → G' b = G b) (hb : V.1 ≤ nx) : RPl V G' nx' sd po p := by
  obtain ⟨lo, ld, ad, ch, f, h1, h2, h3, h4, h5, h6, h7, h8, h9, h10, h11, h12⟩ := h
  exact ⟨lo, ld, ad, ch, f, (hk po h6 (Or.inr h5)).trans h1, h2.keep (hk lo h8 (Or.inr h7)) (by rcases h9 with w | w; exact hk ld (by omega) (Or.inl w); exact hk ld w.2 (Or.inr w.1)) (fun a ha => hk a (h10 a ha).2 (Or.inr (h10 a ha).1)), (hk ch h12 (Or.inr h11)).trans h3, h4, h5, by omega, h7, by omega, by omega, fun a ha => by have := h10 a ha; omega, h11, by omega⟩
end X
/-- a rule is read: t the word's token; the rules; the last token, or the fault -/
def pRule (l : List Nat) (rs : List Ru) (t : Tk) : Nat ⊕ (List Ru × Tk) :=
  if rs.length = 3 then .inl t.1 else
  let t1 := lexT l t.2.2.2
  if nuI t1 1 4 = false then .inl t1.1 else
  let t2 := lexT l t1.2.2.2
  if (nuI t2 t1.2.2.1 4 && decide (bks rs + t2.2.2.1 - 1 ≤ 6)) = false then .inl t2.1 else
  let t3 := lexT l t2.2.2.2
  if nuI t3 1 31 = false then .inl t3.1 else .inr (rs ++ [(t1.2.2.1, t2.2.2.1, t3.2.2.1)], t3)
theorem nuI_wrong {t : Tk} {lo hi : Nat} (h : t.2.1 = 6) : nuI t lo hi = false := decide_eq_false (fun z => by omega)
theorem tkW_len (t : Tk) : (tkW t).length ≠ 5 := by
  unfold tkW
  by_cases c1 : t.2.1 = 1
  · rw [if_pos c1]; decide
  rw [if_neg c1]
  by_cases c2 : t.2.1 = 2
  · rw [if_pos c2]; decide
  rw [if_neg c2]
  by_cases c3 : t.2.1 = 3
  · rw [if_pos c3]; decide
  rw [if_neg c3]
  by_cases c4 : t.2.1 = 4
  · rw [if_pos c4]; decide
  rw [if_neg c4]
  by_cases c5 : t.2.1 = 5
  · rw [if_pos c5]; decide
  rw [if_neg c5]; decide
/-- texts other than so are kept -/
def StK (V : HEn) (G G' : Gh) (nx so : Nat) : Prop := ∀ xo xd w st, Str V G xo xd w st → xo < nx → xd < nx → xo ≠ so → w.length ≠ 5 → Str V G' xo xd w st
theorem StK.trans {V : HEn} {G G1 G2 : Gh} {nx n1 so : Nat} (h : StK V G G1 nx so) (hn : nx ≤ n1) (h' : StK V G1 G2 n1 so) : StK V G G2 nx so := fun xo xd w st s a b c d => h' xo xd w st (h xo xd w st s a b c d) (by omega) (by omega) c d
theorem StK.low {V : HEn} {G G' : Gh} {nx so : Nat} (hk : ∀ b, b < nx → G' b = G b) : StK V G G' nx so := fun xo xd _ _ s a b _ _ => s.keep (hk xo a) (hk xd b)
theorem RdF.stk {V : HEn} {G G' : Gh} {nx ro so sd po it on : Nat} {l : List Nat} {t : Tk} (h : RdF V G nx ro so sd po it on l t) (hk : ∀ b, b < nx → b ≠ ro → b ≠ so → G' b = G b) : StK V G G' nx so := by
  obtain ⟨⟨wo, wd, h1, ⟨f, a, z, h2, -⟩, -⟩, -⟩ := h
  intro xo xd w st s hx hd ho _
  have e1 := s.ne_obj h1 (by decide)
  obtain ⟨f', a', z', s1, s2, -⟩ := id s
  exact s.keep (hk xo hx e1.1.symm ho) (hk xd hd e1.2.symm (hd_na h2 s2).symm)

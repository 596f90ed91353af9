/-! PURE 99: Reader.item -/
def pSums (l : List Nat) (p : Pn) (t : Tk) : Nat ⊕ (Pn × Tk) :=
  if nuI (lexT l t.2.2.2) 0 2 = false then .inl (lexT l t.2.2.2).1 else
  if nuI (lexT l (lexT l t.2.2.2).2.2.2) 1 9 = false then .inl (lexT l (lexT l t.2.2.2).2.2.2).1 else .inr ((p.1, p.2.1, (lexT l t.2.2.2).2.2.1, (lexT l (lexT l t.2.2.2).2.2.2).2.2.1), lexT l (lexT l t.2.2.2).2.2.2)
/-- once is written anew -/
def onE (V : HEn) (o : Nat) (G : Gh) (N : Nat) (l1 : Option Nat) : HO (Unit ⊕ Nat) := tick 1 4 (cB (hF_J6_init V (gset G N (.inr (24, [.null, .int 0, .int 0, .int 0]))) (N + 1) N) fun y39 G40 c41 => (xR G40 o fl_RunWatch_Reader_once).bind fun r46 => if gC G40 N 24 = true then cB (hF_J6_append_2 V G40 ((N + 1) + c41) N r46) fun r49 G50 c51 => (r49).bind fun a56 => if gC G50 a56 24 = true then cB (hF_J6_append_2 V G50 (((N + 1) + c41) + c51) a56 l1) fun r59 G60 c61 => hB_X4_item_221 V o G60 ((((N + 1) + c41) + c51) + c61) (some o) r59 else none else none)
def sumE (V : HEn) (o : Nat) (G : Gh) (nx : Nat) (k : Gh → Nat → HO (Unit ⊕ Nat)) : HO (Unit ⊕ Nat) := if gC G o 3 = true then xB (hF_X4_next V G nx o) fun y80 G81 c82 => (xR G81 o fl_RunWatch_Reader_plan).bind fun r89 => if gC G81 o 3 = true then xB (hF_X4_takes V G81 (nx + c82) o 0 2) fun y92 G93 c94 => (r89).bind fun a101 => (xF V.1 G93 a101 fl_RunWatch_Plan_slack (.int y92)).bind fun G103 => (xR G103 o fl_RunWatch_Reader_plan).bind fun r105 => if gC G103 o 3 = true then xB (hF_X4_takes V G103 ((nx + c82) + c94) o 1 9) fun y108 G109 c110 => (r105).bind fun a117 => (xF V.1 G109 a117 fl_RunWatch_Plan_limit (.int y108)).bind fun G119 => k G119 (((nx + c82) + c94) + c110) else none else none else none
section X
variable {V : HEn} {G G' : Gh} {nx nx' ro so sd po it on it' on' : Nat} {l : List Nat} {t : Tk} {p p' : Pn}
theorem RdF.reset (h : RdF V G nx ro so sd po it on l t) (hn : nx ≤ nx') (hr : ∀ wo, G ro = some (rdc so po t.2.2.2 t.1 wo (tkN t) it on) → G' ro = some (rdc so po t.2.2.2 t.1 wo (tkN t) it' on')) (hk : ∀ b, b < nx → b ≠ ro → G' b = G b) : RdF V G' nx' ro so sd po it' on' l t := by
  obtain ⟨⟨wo, wd, h1, h2, h3, h4, h5, h6, h7⟩, g1, g2, g3, g4, g5, g6, g7, g8, g9, g10⟩ := h
  have e := h3.ne_obj h1 (by decide)
  exact ⟨⟨wo, wd, hr wo h1, h2.keep (hk so (by omega) (by omega)) (hk sd (by omega) (by omega)), h3.keep (hk wo h4 e.1.symm) (hk wd h5 e.2.symm), by omega, by omega, h6, h7⟩, g1.keep (fun a ha => hk a (by omega) (by omega)), g2, g3, g4, by omega, g6, g7, g8, g9, g10⟩
theorem RPl.set (h : RPl V G nx sd po p) (e1 : p'.1 = p.1) (e2 : p'.2.1 = p.2.1) (hr : ∀ lo ch, G po = some (pcell lo ch p none) → G' po = some (pcell lo ch p' none)) (hk : ∀ b, b ≠ po → G' b = G b) : RPl V G' nx sd po p' := by
  obtain ⟨lo, ld, ad, ch, f0, p1, p2, p3, p4, p5, p6, p7, p8, p9, p10, p11, p12⟩ := h
  obtain ⟨a1, a2, a3, a4, a5⟩ := id p2
  obtain ⟨ml, nn, ff, z1, z2, -⟩ := id a1
  have hne : ∀ a, a ∈ ad → a ≠ po := fun a ha e => by
    obtain ⟨i, hi, e'⟩ := List.getElem_of_mem ha
    have hc := (a5 i hi (by omega)).1
    rw [e', e, p1] at hc
    cases hc
  exact ⟨lo, ld, ad, ch, f0, hr lo ch p1, by rw [e1]; exact p2.keep (hk lo (hd_ne p1 z1 (by decide)).symm) (hk ld (hd_na p1 z2).symm) (fun a ha => hk a (hne a ha)), (hk ch (hd_na p1 p3).symm).trans p3, by rw [e2]; exact p4, p5, p6, p7, p8, p9, p10, p11, p12⟩
theorem ItQ.ok {m : Nat} {R : Nat ⊕ (Pn × Tk)} {u : Unit} {c s : Nat} (h : ItQ V G nx ro so sd po it on l m R (.inl u) G' c s) : ∃ p' t3, R = .inr (p', t3) ∧ (lexT l t3.2.2.2).2.1 ≠ 6 ∧ RdF V G' (nx + c) ro so sd po it on l (lexT l t3.2.2.2) ∧ RPl V G' (nx + c) sd po p' ∧ StK V G G' nx so := by
  obtain ⟨-, -, -, h⟩ := h
  cases R with
  | inl b => obtain ⟨q, w, -⟩ := h; cases w
  | inr y =>
    obtain ⟨p', t3⟩ := y
    rcases h with ⟨-, q, w, -⟩ | ⟨w1, -, w3, w4, w5⟩
    · cases w
    · exact ⟨p', t3, rfl, w1, w3, w4, w5⟩
theorem ItQ.no {m : Nat} {R : Nat ⊕ (Pn × Tk)} {q : Nat} {c s : Nat} (h : ItQ V G nx ro so sd po it on l m R (.inr q) G' c s) : (∃ b, R = .inl b ∧ FtQ nx b (some q) G' c) ∨ (∃ p' t3, R = .inr (p', t3) ∧ (lexT l t3.2.2.2).2.1 = 6 ∧ FtQ nx (lexT l t3.2.2.2).1 (some q) G' c) := by
  obtain ⟨-, -, -, h⟩ := h
  cases R with
  | inl b => exact Or.inl ⟨b, rfl, h⟩
  | inr y =>
    obtain ⟨p', t3⟩ := y
    rcases h with ⟨w1, w2⟩ | ⟨-, w, -⟩
    · exact Or.inr ⟨p', t3, rfl, w1, w2⟩
    · cases w
theorem onE_at {N od wo wd : Nat} {ow w : List Nat} {st st' : Prop} (h : RdF V G N ro so sd po it on l t) (hO : Str V G on od ow st) (hW : Str V G wo wd w st') (hl : ow.length + w.length ≤ 16) (ho : on < N) (hod : od < N) (hwo : wo < N) (hwd : wd < N) : wH (onE V ro G N (some wo)) (fun r G' c s => r = .inl () ∧ c = 4 ∧ s ≤ 40 ∧ (∀ b, b < N → b ≠ ro → G' b = G b) ∧ RdF V G' (N + 4) ro so sd po it (N + 2) l t ∧ Str V G' (N + 2) (N + 3) (ow ++ w) False) := by
  obtain ⟨-, g1, g2, g3, g4, g5, -⟩ := id h
  unfold onE
  refine w_tick (w_call (sb_new (by omega) (by omega) (gset_eq _ _ _)) ?_)
  rintro - G1 c1 s1 ⟨rfl, rfl, t1, t2⟩
  have k1 : ∀ b, b < N → G1 b = G b := fun b hb => by rw [t2 b (by omega) (by omega), gset_ne _ _ (by omega)]
  obtain ⟨wo', h1⟩ := h.cell
  refine w_xR ((k1 ro (by omega)).trans h1) rfl rfl (w_pos (by obtain ⟨ml, f, a1, -⟩ := t1; exact gC_at a1) ?_)
  refine w_call (sb_str t1 (hO.keep (k1 on ho) (k1 od hod)) (by simp; omega) (by omega) (by omega) (by omega) ⟨by omega, by omega, by omega⟩) ?_
  rintro r G2 c2 s2 ⟨rfl, rfl, rfl, u1, u2⟩
  have k2 : ∀ b, b < N → G2 b = G b := fun b hb => by rw [u2 b (by omega) (by omega) (by omega)]; exact k1 b hb
  refine w_some (w_pos (by obtain ⟨ml, f, a1, -⟩ := u1; exact gC_at a1) ?_)
  refine w_call (sb_str u1 (hW.keep (k2 wo hwo) (k2 wd hwd)) (by simp; omega) (by omega) (by omega) (by omega) ⟨by omega, by omega, by omega⟩) ?_
  rintro r G3 c3 s3 ⟨rfl, rfl, rfl, v1, v2⟩
  have k3 : ∀ b, b < N → G3 b = G b := fun b hb => by rw [v2 b (by omega) (by omega) (by omega)]; exact k2 b hb
  unfold hB_X4_item_221
  refine w_some (w_pos (by obtain ⟨ml, f, a1, -⟩ := v1; exact gC_at a1) ?_)
  refine w_call (sb_toString v1 (by omega) (by omega)) ?_
  rintro r G4 c4 s4 ⟨rfl, rfl, rfl, y1, y2⟩
  have k4 : ∀ b, b < N → G4 b = G b := fun b hb => by rw [y2 b (by omega) (by omega)]; exact k3 b hb
  refine w_some (w_xF (fs' := _) ((k4 ro (by omega)).trans h1) rfl (Nat.le_of_ble_eq_true rfl) (by omega) rfl ?_)
  unfold hB_X4_item_235
  have k5 : ∀ b, b < N → b ≠ ro → ∀ y, gset G4 ro y b = G b := fun b hb hn y => by rw [gset_ne _ _ hn]; exact k4 b hb
  refine w_ret ⟨rfl, rfl, ?_, fun b hb hn => k5 b hb hn _, h.reset (by omega) (fun wo2 e => ?_) (fun b hb hn => k5 b hb hn _), ?_⟩
  · simp only [List.nil_append, List.length_append]; omega
  · rw [gset_eq]
    rw [h1] at e
    have : wo' = wo2 := by
      simp only [Option.some.injEq, Sum.inr.injEq, Prod.mk.injEq, List.cons.injEq, va_rf, Value.ref.injEq] at e
      first | exact e.2.2.2.2.2.1 | simp_all
    rw [this]
    rfl
  · exact y1.keep (gset_ne _ _ (by omega)) (gset_ne _ _ (by omega))
theorem sums_k {k : Gh → Nat → HO (Unit ⊕ Nat)} {Q : Unit ⊕ Nat → Gh → Nat → Nat → Prop} (hV : 1200 ≤ V.2.2.2.2) (h : RdF V G nx ro so sd po it on l t) (hP : RPl V G nx sd po p)
    (KF : ∀ q G' c s, ItQ V G nx ro so sd po it on l 20 (pSums l p t) (.inr q) G' c s → Q (.inr q) G' c s)
    (KG : ∀ G' c s, ItQ V G nx ro so sd po it on l 20 (pSums l p t) (.inl ()) G' c s → wH (k G' (nx + c)) (fun r G'' c' s' => Q r G'' (c + c') (s + s'))) : wH (sumE V ro G nx k) Q := by
  obtain ⟨-, g1, g2, g3, g4, g5, g6, g7, g8, g9, g10⟩ := id h
  obtain ⟨wo, h1⟩ := h.cell
  unfold sumE
  refine w_pos (gC_at h1) (xw (next_f hV h) ?_ ?_)
  case refine_2 =>
    rintro q G1 c1 s1 ⟨q1, q2, q3, q4⟩
    rcases q4 with ⟨-, c2, -⟩ | ⟨c1', c2⟩
    · cases c2
    · refine KF q G1 c1 s1 ⟨by omega, by omega, fun b hb => q3 b (by omega) (by omega) (by omega), ?_⟩
      rw [show pSums l p t = .inl (lexT l t.2.2.2).1 by unfold pSums; rw [if_pos (nuI_wrong c1')]]
      exact c2
  rintro r G1 c1 s1 ⟨q1, q2, q3, q4⟩
  rcases q4 with ⟨-, -, hF1⟩ | ⟨-, q, c2, -⟩
  case inr => cases c2
  have k1 : ∀ b, b < ro → G1 b = G b := fun b hb => q3 b (by omega) (by omega) (by omega)
  have hP1 : RPl V G1 (nx + c1) sd po p := hP.keep (by omega) (fun b b1 b2 => q3 b b1 (by omega) (by omega)) (by omega)
  have eS : pSums l p t = if nuI (lexT l t.2.2.2) 0 2 = false then .inl (lexT l t.2.2.2).1 else if nuI (lexT l (lexT l t.2.2.2).2.2.2) 1 9 = false then .inl (lexT l (lexT l t.2.2.2).2.2.2).1 else .inr ((p.1, p.2.1, (lexT l t.2.2.2).2.2.1, (lexT l (lexT l t.2.2.2).2.2.2).2.2.1), lexT l (lexT l t.2.2.2).2.2.2) := rfl
  have hS1 := h.stk q3
  generalize lexT l t.2.2.2 = t1 at *
  obtain ⟨wo1, r1⟩ := hF1.cell
  refine w_xR r1 rfl rfl (w_pos (gC_at r1) (xw (takes_f (lo := 0) (hi := 2) hV hF1 (by omega) (by omega)) ?_ ?_))
  case refine_2 =>
    rintro q G2 c2 s2 ⟨u1, u2, u3, u4⟩
    refine KF q G2 _ _ ⟨by omega, by omega, fun b hb => by rw [u3 b (by omega) (by omega) (by omega)]; exact k1 b hb, ?_⟩
    rcases u4 with ⟨-, -, v3, -⟩ | ⟨v1, v2, v3⟩ | ⟨v1, v3⟩
    · cases v3
    · rw [eS, if_neg (by rw [v1]; decide), if_pos (nuI_wrong v2)]
      exact v3.of (by omega) (by omega)
    · rw [eS, if_pos v1]
      exact v3.of (by omega) (by omega)
  rintro r G2 c2 s2 ⟨u1, u2, u3, u4⟩
  rcases u4 with ⟨v1, v2, v3, hF2⟩ | ⟨-, -, q, v5, -⟩ | ⟨-, q, v5, -⟩
  case inr.inl => cases v5
  case inr.inr => cases v5
  cases v3
  have hP2 : RPl V G2 (nx + c1 + c2) sd po p := hP1.keep (by omega) (fun b b1 b2 => u3 b b1 (by omega) (by omega)) (by omega)
  have hpo : sd < po ∧ po < nx := by obtain ⟨lo, ld, ad, ch, f0, p1, p2, p3, p4, p5, p6, -⟩ := hP; exact ⟨p5, p6⟩
  rw [if_neg (by rw [v1]; decide)] at eS
  have k2 : ∀ b, b < ro → G2 b = G b := fun b hb => by rw [u3 b (by omega) (by omega) (by omega)]; exact k1 b hb
  have hS2 : StK V G G2 nx so := hS1.trans (Nat.le_add_right _ c1) (hF1.stk u3)
  obtain ⟨lo, ld, ad, ch, f0, p1, -⟩ := id hP2
  refine w_some (w_xF (fs' := [va_rf (some lo), va_rf (some ch), .int (nI t1.2.2.1), .int (nI p.2.2.2), va_rf none]) p1 rfl (Nat.le_of_ble_eq_true rfl) (by omega) rfl ?_)
  have un : ∀ lo2 ch2 (p2 : Pn), G2 po = some (pcell lo2 ch2 p2 none) → lo2 = lo ∧ ch2 = ch := fun lo2 ch2 p2 e => by
    rw [p1] at e
    simp only [Option.some.injEq, Sum.inr.injEq, Prod.mk.injEq, List.cons.injEq, va_rf, Value.ref.injEq] at e
    exact ⟨e.2.1.symm, e.2.2.1.symm⟩
  generalize hG3 : gset G2 po _ = G3
  have e3 : ∀ b, b ≠ po → G3 b = G2 b := fun b hb => by rw [← hG3]; exact gset_ne _ _ hb
  have hP3 : RPl V G3 (nx + c1 + c2) sd po (p.1, p.2.1, t1.2.2.1, p.2.2.2) := hP2.set rfl rfl (fun lo2 ch2 e => by obtain ⟨rfl, rfl⟩ := un _ _ _ e; rw [← hG3]; exact gset_eq _ _ _) e3
  have hF3 : RdF V G3 (nx + c1 + c2) ro so sd po it on l (lexT l t1.2.2.2) := hF2.upd (X := fun x => x = po) (Nat.le_refl _) (fun x hx => by omega) (fun x hx wo wd hs => by rw [hx]; exact hs.ne_obj p1 (by decide)) (fun b _ hb => e3 b hb)
  have hS3 : StK V G G3 nx so := hS2.trans (Nat.le_refl _) (fun xo xd w st s a b c _ => by have e1 := s.ne_obj p1 (by decide); exact s.keep (e3 xo e1.1.symm) (e3 xd e1.2.symm))
  clear hG3
  generalize ht2 : lexT l t1.2.2.2 = t2 at *
  obtain ⟨wo3, r3⟩ := hF3.cell
  refine w_xR r3 rfl rfl (w_pos (gC_at r3) (xw (takes_f (lo := 1) (hi := 9) hV hF3 (by omega) (by omega)) ?_ ?_))
  case refine_2 =>
    rintro q G4 c4 s4 ⟨y1, y2, y3, y4⟩
    refine KF q G4 _ _ ⟨by omega, by omega, fun b hb => by rw [y3 b (by omega) (by omega) (by omega), e3 b (by omega)]; exact k2 b hb, ?_⟩
    rcases y4 with ⟨-, -, v3, -⟩ | ⟨v1, v2, v3⟩ | ⟨v1, v3⟩
    · cases v3
    · rw [eS, if_neg (by rw [v1]; decide)]
      exact Or.inl ⟨v2, v3.of (by omega) (by omega)⟩
    · rw [eS, if_pos v1]
      exact v3.of (by omega) (by omega)
  rintro r G4 c4 s4 ⟨y1, y2, y3, y4⟩
  rcases y4 with ⟨w1, w2, w3, hF4⟩ | ⟨-, -, q, v5, -⟩ | ⟨-, q, v5, -⟩
  case inr.inl => cases v5
  case inr.inr => cases v5
  cases w3
  have hP4 : RPl V G4 (nx + c1 + c2 + c4) sd po (p.1, p.2.1, t1.2.2.1, p.2.2.2) := hP3.keep (by omega) (fun b b1 b2 => y3 b b1 (by omega) (by omega)) (by omega)
  obtain ⟨lo4, ld4, ad4, ch4, f4, p41, -⟩ := id hP4
  rw [if_neg (by rw [w1]; decide)] at eS
  refine w_some (w_xF (fs' := [va_rf (some lo4), va_rf (some ch4), .int (nI t1.2.2.1), .int (nI t2.2.2.1), va_rf none]) p41 rfl (Nat.le_of_ble_eq_true rfl) (by omega) rfl ?_)
  have un4 : ∀ lo2 ch2 (p2 : Pn), G4 po = some (pcell lo2 ch2 p2 none) → lo2 = lo4 ∧ ch2 = ch4 := fun lo2 ch2 p2 e => by
    rw [p41] at e
    simp only [Option.some.injEq, Sum.inr.injEq, Prod.mk.injEq, List.cons.injEq, va_rf, Value.ref.injEq] at e
    exact ⟨e.2.1.symm, e.2.2.1.symm⟩
  generalize hG5 : gset G4 po _ = G5
  have e5 : ∀ b, b ≠ po → G5 b = G4 b := fun b hb => by rw [← hG5]; exact gset_ne _ _ hb
  have hP5 : RPl V G5 (nx + c1 + c2 + c4) sd po (p.1, p.2.1, t1.2.2.1, t2.2.2.1) := hP4.set rfl rfl (fun lo2 ch2 e => by obtain ⟨rfl, rfl⟩ := un4 _ _ _ e; rw [← hG5]; exact gset_eq _ _ _) e5
  have hF5 : RdF V G5 (nx + c1 + c2 + c4) ro so sd po it on l (lexT l t2.2.2.2) := hF4.upd (X := fun x => x = po) (Nat.le_refl _) (fun x hx => by omega) (fun x hx wo wd hs => by rw [hx]; exact hs.ne_obj p41 (by decide)) (fun b _ hb => e5 b hb)
  have hS5 : StK V G G5 nx so := hS3.trans (n1 := nx + c1 + c2) (by omega) ((hF3.stk y3).trans (Nat.le_add_right _ c4) (fun xo xd w st s a b c _ => by have e1 := s.ne_obj p41 (by decide); exact s.keep (e5 xo e1.1.symm) (e5 xd e1.2.symm)))
  clear hG5
  have := KG G5 (c1 + (c2 + c4)) (s1 + (s2 + s4)) ⟨by omega, by omega, fun b hb => by rw [e5 b (by omega), y3 b (by omega) (by omega) (by omega), e3 b (by omega)]; exact k2 b hb, by
    rw [eS]
    exact Or.inr ⟨w2, rfl, by rw [show nx + (c1 + (c2 + c4)) = nx + c1 + c2 + c4 by omega]; exact hF5, by rw [show nx + (c1 + (c2 + c4)) = nx + c1 + c2 + c4 by omega]; exact hP5, hS5⟩⟩
  rw [show nx + (c1 + (c2 + c4)) = nx + c1 + c2 + c4 by omega] at this
  refine w_mono this ?_
  intro r G' c s hq
  rw [show c1 + (c2 + (c4 + c)) = c1 + (c2 + c4) + c by omega, show s1 + (s2 + (s4 + s)) = s1 + (s2 + s4) + s by omega]
  exact hq
end X

/-! PURE 72: contracts of RunWatch's own methods: rows -/
def Cost (c s u u' : Nat) : Prop := c + 4850 * u' ≤ 11700 + 4850 * u ∧ s + 70050 * u' ≤ 105000 + 70050 * u
def Ct (V : HEn) (xo : Nat) (f : Gh → Nat → HO Int32) (sp : Sp → Int32 × Sp) : Prop := ∀ (G : Gh) (nx : Nat) (S : Sp) (ul : List Nat), Wd V G nx xo S ul → wH (f G nx) (fun r G' c s => r = (sp S).1 ∧ ∃ ul', Wd V G' (nx + c) xo (sp S).2 ul' ∧ Cost c s ul.length ul'.length)
theorem Ct.same {V : HEn} {G : Gh} {nx xo c s : Nat} {S : Sp} {ul : List Nat} (h : Wd V G nx xo S ul) (hc : c = 0) (hs : s = 0) : ∃ ul', Wd V G (nx + c) xo S ul' ∧ Cost c s ul.length ul'.length := by
  subst hc; subst hs
  exact ⟨ul, h, by unfold Cost; omega⟩
theorem isS1 (v : Nat) : ¬ (if (some v : Option Nat).isSome = true then (1 : Int32) else 0) = 0 := by
  show ¬ (1 : Int32) = 0
  decide
section X
variable {V : HEn} {xo : Nat}
theorem ct_clear (hV : 1200 ≤ V.2.2.2.2) : Ct V xo (fun G nx => hF_X0_clear V G nx xo) spClear := by
  rintro G nx S ul ⟨tg, d0, da, ia, ro, rd, tx, pl, i0, i1, rws, hW, hR, e1, e2, e3, hu⟩
  obtain ⟨hx0, hr0, ht0, rx, txx, txr, rdx, rdr, dax, iax, ⟨fro, hro⟩, ⟨ftx, htx⟩, hds⟩ := hW.heads
  obtain ⟨⟨a1, a2, a3, a4, a5⟩, b1, ⟨c1, c2, c3⟩, ⟨fd, d1, d2, d3⟩, ⟨fi, y1, y2, y3, y4⟩, da1, ⟨⟨rl, f1⟩, f2, f3⟩, ⟨td, tn, g1, g2, g3, g4, g5⟩, h1, h2, h3⟩ := hW
  have tl := (b1 tx (by rw [g2]; exact ht0)).2
  have tdl := (b1 td (by rw [g3]; exact ht0)).2
  show wH (hF_X0_clear V G nx xo) _
  unfold hF_X0_clear
  refine w_xR c1 rfl rfl (w_some (w_pos (gC_at htx) (w_call0 (sb_length g1) (w_xR c1 rfl rfl (w_some (w_pos (gC_at htx) (w_call (sb_zero g1 (by omega) (by omega) (by omega)) ?_)))))))
  rintro - G1 c s ⟨rfl, rfl, u1, u2⟩
  have fr : ∀ a, tg a ≠ tx → G1 a = G a := fun a w => u2 a (fun e => w (by rw [e]; exact g2))
  have fc : ∀ a, a < V.1 → G1 a = G a := fun a ha => fr a (fun w => by have := (b1 a (by rw [w]; exact ht0)).1; omega)
  have ard : G1 rd = G rd := by
    rcases f3 with w | w
    · exact fr rd (by rw [w]; exact Ne.symm txr)
    · exact fc rd w
  refine w_ret ⟨rfl, ul, ⟨tg, d0, da, ia, ro, rd, tx, pl, i0, i1, rws, ⟨⟨a1, a2, a3.keep fc, a4.keep fc, a5.keep fc⟩, b1, ⟨(fr xo (by rw [c2]; exact Ne.symm txx)).trans c1, c2, c3⟩, ⟨fd, (fr da (by rw [d2]; exact Ne.symm txx)).trans d1, d2, d3⟩, ⟨fi, (fr ia (by rw [y2]; exact Ne.symm txx)).trans y1, y2, y3, y4⟩, da1, ⟨⟨rl, f1.keep (fr ro (by rw [f2]; exact Ne.symm txr)) ard⟩, f2, f3⟩, ⟨td, tn, u1, g2, g3, g4, Nat.zero_le _⟩, fun e he => ⟨?_, (h1 e he).2⟩, h2, h3⟩, ⟨hR.1.keep (fr ro (by rw [f2]; exact Ne.symm txr)) ard, hR.2.1, hR.2.2.1, fun j j1 j2 => ?_⟩, e1, e2, e3, hu⟩, by unfold Cost; omega⟩
  · refine (h1 e he).1.move (T := fun t => t = tx) a1 (fun a w1 w2 => ⟨rfl, fr a w2⟩) (hds e he).2.2.2 ?_ fc (fun q w => w)
    rintro q fs w hq
    rw [w, htx] at hq; cases hq
  · rw [fr _ (by rw [(hR.2.1 _ (List.getElem_mem j1)).1]; exact Ne.symm txr)]
    exact hR.2.2.2 j j1 j2
theorem ct_type {a : Int32} (hV : 1200 ≤ V.2.2.2.2) : Ct V xo (fun G nx => hF_X0_type V G nx xo a) (fun S => spType S a) := by
  rintro G nx S ul h0
  have h00 := h0
  obtain ⟨tg, d0, da, ia, ro, rd, tx, pl, i0, i1, rws, hW, hR, e1, e2, e3, hu⟩ := h0
  obtain ⟨hx0, hr0, ht0, rx, txx, txr, rdx, rdr, dax, iax, ⟨fro, hro⟩, ⟨ftx, htx⟩, hds⟩ := hW.heads
  obtain ⟨⟨a1, a2, a3, a4, a5⟩, b1, ⟨c1, c2, c3⟩, ⟨fd, d1, d2, d3⟩, ⟨fi, y1, y2, y3, y4⟩, da1, ⟨⟨rl, f1⟩, f2, f3⟩, ⟨td, tn, g1, g2, g3, g4, g5⟩, h1, h2, h3⟩ := hW
  have tl := (b1 tx (by rw [g2]; exact ht0)).2
  have tdl := (b1 td (by rw [g3]; exact ht0)).2
  show wH (hF_X0_type V G nx xo a) _
  unfold hF_X0_type spType
  refine w_call0 (isIn_at (n := 256) (by decide)) ?_
  cases ea : iR a 256 with
  | none => exact w_pos rfl (w_ret ⟨rfl, Ct.same h00 rfl rfl⟩)
  | some v =>
    obtain ⟨rfl, hv⟩ := iR_some (by decide) ea
    refine w_neg (isS1 v) (w_xR c1 rfl rfl (w_some (w_pos (gC_at htx) (w_call0 (sb_length g1) ?_))))
    simp only
    by_cases c : S.2.2.2.length = 120
    · rw [if_pos c]
      exact w_pos (by rw [c]; rfl) (w_ret ⟨rfl, Ct.same h00 rfl rfl⟩)
    · rw [if_neg c]
      refine w_neg (fun z => c ((nI_eq (b := 120) (by omega) (by omega)).mp z)) (w_xR c1 rfl rfl (w_some (w_pos (gC_at htx) ?_)))
      have ec : ((nI v).toUInt32 % 65536).toInt32 = nI v := by
        have : ∀ v, v < 256 → ((nI v).toUInt32 % 65536).toInt32 = nI v := by decide +kernel
        exact this v hv
      rw [ec]
      refine w_call (sb_char g1 (by omega) hv (by omega) (by omega)) ?_
      rintro - G1 c' s ⟨⟨td', tn', u1, u2, u3⟩, u4⟩
      have htn : tn' ≤ 254 := by rcases u3 with z | z <;> omega
      have tdn : (tg td' = tx ∧ td' = td) ∨ (td' = nx ∧ c' = 1) := by
        rcases u3 with z | z
        · exact Or.inl ⟨by rw [z.1]; exact g3, z.1⟩
        · exact Or.inr (by omega)
      have hcs : c' ≤ 1 ∧ s ≤ 300 := by rcases u3 with z | z <;> omega
      clear u3
      have fr : ∀ a, a < nx → tg a ≠ tx → G1 a = G a := fun a w0 w => u4 a (fun e => w (by rw [e]; exact g2)) (fun e => w (by rw [e]; exact g3)) (by omega)
      have frt : ∀ a, tg a ≠ 0 → tg a ≠ tx → G1 a = G a := fun a w1 w2 => fr a (b1 a w1).2 w2
      have fc : ∀ a, a < V.1 → G1 a = G a := fun a ha => fr a (by omega) (fun w => by have := (b1 a (by rw [w]; exact ht0)).1; omega)
      have ard : G1 rd = G rd := by
        rcases f3 with w | w
        · exact frt rd (by rw [w]; exact hr0) (by rw [w]; exact Ne.symm txr)
        · exact fc rd w
      have kx : G1 xo = some (xcell d0 da pl.length ia ro (gLast S.1.1 (0, 0, 0) S.1.2) tx) := (frt xo (by rw [c2]; exact hx0) (by rw [c2]; exact Ne.symm txx)).trans c1
      refine w_xR kx rfl rfl (w_some (w_pos (by obtain ⟨ml, f, z, -⟩ := u1; exact gC_at z) (w_call0 (sb_length u1) ?_)))
      have old : ∀ {nt : Nat → Nat} {a : Nat}, tg a ≠ 0 → tgN nx tg nt a = tg a := fun {nt a} w => tgN_old (b1 a w).2
      refine w_ret ⟨by rw [List.length_append]; rfl, ul, ⟨tgN nx tg (fun a => if a = nx ∧ c' = 1 then tx else 0), d0, da, ia, ro, rd, tx, pl, i0, i1, rws, ⟨⟨a1, by omega, a3.keep fc, a4.keep fc, a5.keep fc⟩, fun b hb => ?_, ⟨kx, by rw [old (by rw [c2]; exact hx0)]; exact c2, c3⟩, ⟨fd, (frt da (by rw [d2]; exact hx0) (by rw [d2]; exact Ne.symm txx)).trans d1, by rw [old (by rw [d2]; exact hx0)]; exact d2, d3⟩, ⟨fi, (frt ia (by rw [y2]; exact hx0) (by rw [y2]; exact Ne.symm txx)).trans y1, by rw [old (by rw [y2]; exact hx0)]; exact y2, y3, y4⟩, da1, ⟨⟨rl, f1.keep (frt ro (by rw [f2]; exact hr0) (by rw [f2]; exact Ne.symm txr)) ard⟩, by rw [old (by rw [f2]; exact hr0)]; exact f2, ?_⟩, ⟨td', tn', u1, by rw [old (by rw [g2]; exact ht0)]; exact g2, ?_, htn, by rw [List.length_append]; simp; omega⟩, fun e he => ⟨?_, (h1 e he).2⟩, h2, h3⟩, ⟨hR.1.keep (frt ro (by rw [f2]; exact hr0) (by rw [f2]; exact Ne.symm txr)) ard, fun b hb => ?_, hR.2.2.1, fun j j1 j2 => ?_⟩, e1, e2, e3, hu⟩, by unfold Cost; omega⟩
      · by_cases cb : b < nx
        · rw [tgN_old cb] at hb
          have := b1 b hb
          omega
        · rw [tgN_new (by omega)] at hb
          by_cases c2' : b = nx ∧ c' = 1
          · omega
          · rw [if_neg c2'] at hb; exact absurd rfl hb
      · rcases f3 with w | w
        · exact Or.inl (by rw [old (by rw [w]; exact hr0)]; exact w)
        · exact Or.inr w
      · rcases tdn with w | w
        · rw [old (by rw [w.1]; exact ht0)]; exact w.1
        · rw [tgN_new (by omega), if_pos w]
      · refine (h1 e he).1.move (T := fun t => t = tx) a1 (fun a w1 w2 => ⟨old w1, frt a w1 w2⟩) (hds e he).2.2.2 ?_ fc (fun q w => w)
        rintro q fs w hq
        rw [w, htx] at hq; cases hq
      · obtain ⟨z1, z2, z3⟩ := hR.2.1 b hb
        exact ⟨by rw [old (by rw [z1]; exact hr0)]; exact z1, z2, z3⟩
      · have z1 := (hR.2.1 _ (List.getElem_mem j1)).1
        rw [frt _ (by rw [z1]; exact hr0) (by rw [z1]; exact Ne.symm txr)]
        exact hR.2.2.2 j j1 j2
end X

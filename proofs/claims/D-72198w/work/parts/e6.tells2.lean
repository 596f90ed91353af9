/-! PURE 9D: RunWatch.tells -/
def spTells (S : Sp) : Int32 × Sp := match pAll S.2.2.2 6 false false dfl 0 (lexT S.2.2.2 0) with
  | .inl b => (-10 - nI b, S)
  | .inr (p, it) => (nI it, ((p, S.1.2), noteL S.2.1 S.1, S.2.2.1, []))
section X
variable {V : HEn} {xo : Nat}
/-- a plan that was read is a plan -/
theorem RPl.pla {G G' : Gh} {nx sd po : Nat} {p : Pn} {tg : Nat → Nat} {U : Nat → Prop} (h : RPl V G nx sd po p) (hb : V.1 ≤ sd) (hk : ∀ a, sd < a → a < nx → G' a = G a ∧ tg a = po) (hc : ∀ a, a < V.1 → G' a = G a) (hU : U po) : PlA V G' tg U po p := by
  obtain ⟨lo, ld, ad, ch, f0, p1, p2, p3, p4, p5, p6, p7, p8, p9, p10, p11, p12⟩ := h
  refine ⟨lo, ld, ad, ch, none, f0, (hk po p5 p6).1.trans p1, p2.keep (hk lo p7 p8).1 ?_ (fun a ha => (hk a (p10 a ha).1 (p10 a ha).2).1), (hk ch p11 p12).1.trans p3, p4, (hk po p5 p6).2, (hk lo p7 p8).2, ?_, fun a ha => (hk a (p10 a ha).1 (p10 a ha).2).2, (hk ch p11 p12).2, by omega, Or.inl ⟨rfl, hU⟩⟩
  · rcases p9 with w | w
    · exact hc ld w
    · exact (hk ld w.1 w.2).1
  · rcases p9 with w | w
    · exact Or.inr w
    · exact Or.inl (hk ld w.1 w.2).2
theorem ct_tells (hV : 1200 ≤ V.2.2.2.2) : Ct V xo (fun G nx => hF_X0_tells V G nx xo) spTells := by
  rintro G nx S ul h0
  have h00 := h0
  obtain ⟨tg, d0, da, ia, ro, rd, tx, pl, i0, i1, rws, hW, hR, e1, e2, e3, hu⟩ := h0
  obtain ⟨hx0, hr0, ht0, rx, txx, txr, rdx, rdr, dax, iax, -, ⟨ftx, htx⟩, hds⟩ := hW.heads
  obtain ⟨⟨a1, a2, a3, a4, a5⟩, b1, ⟨c1, c2, c3⟩, ⟨fd, d1, d2, d3⟩, -, -, -, ⟨td, tn, g1, g2, g3, g4, g5⟩, -⟩ := id hW
  have tl := (b1 tx (by rw [g2]; exact ht0)).2
  have tdl := (b1 td (by rw [g3]; exact ht0)).2
  have xl := (b1 xo (by rw [c2]; exact hx0)).2
  have dal := (b1 da (by rw [d2]; exact hx0)).2
  have d0l := hW.dlt (e := (d0, S.1)) (by simp [dsk])
  simp only at d0l
  show wH (hF_X0_tells V G nx xo) (fun r G' c s => r = (spTells S).1 ∧ ∃ ul', Wd V G' (nx + c) xo (spTells S).2 ul' ∧ Cost c s ul.length ul'.length)
  unfold hF_X0_tells
  refine w_tick ?_
  generalize hG0 : gset G nx _ = G0
  have k0 : ∀ b, b < nx → G0 b = G b := fun b hb => by rw [← hG0]; exact gset_ne _ _ (by omega)
  have kn0 : G0 nx = some (.inr (3, [.null, .null, .int 0, .int 0, .null, .int 0, .int 0, .null])) := by rw [← hG0]; exact gset_eq _ _ _
  clear hG0
  refine w_xR ((k0 xo xl).trans c1) rfl rfl (w_some (w_pos (gC_at ((k0 tx tl).trans htx)) ?_))
  refine w_call (sb_toString (g1.keep (k0 tx tl) (k0 td tdl)) (by omega) (by omega)) ?_
  rintro r G1 cc ss ⟨rfl, rfl, rfl, t1, t2⟩
  have k1 : ∀ b, b < nx → G1 b = G b := fun b hb => by rw [t2 b (by omega) (by omega)]; exact k0 b hb
  have kn1 := (t2 nx (by omega) (by omega)).trans kn0
  unfold hF_X4_init
  refine w_cB (w_tick (w_call (plan_new (a3.keep (fun a ha => by rw [gset_ne _ _ (by omega)]; exact k1 a (by omega))) (by omega) (by omega) (gset_eq _ _ _)) ?_))
  rintro - G2 cc ss ⟨rfl, rfl, ⟨e0, f, u1, u2, u3, u4, u5⟩, u6⟩
  have k2 : ∀ b, b < nx + 3 → G2 b = G1 b := fun b hb => by rw [u6 b (by omega) (by omega), gset_ne _ _ (by omega)]
  refine w_xF (fs' := _) ((k2 nx (by omega)).trans kn1) rfl (Nat.le_of_ble_eq_true rfl) (by omega) rfl (w_xF (fs' := _) (gset_eq _ _ _) rfl (Nat.le_of_ble_eq_true rfl) (by omega) rfl (w_xF (fs' := _) (gset_eq _ _ _) rfl (Nat.le_of_ble_eq_true rfl) (by omega) rfl (w_xF (fs' := [va_rf (some (nx + 1)), va_rf (some (nx + 3)), .int 0, .int 0, va_rf (some (V.2.2.2.1 0)), .int 0, .int 0, va_rf (some (V.2.2.2.1 0))]) (gset_eq _ _ _) rfl (Nat.le_of_ble_eq_true rfl) (by omega) rfl (w_ret ?_))))
  generalize hG3 : gset (gset (gset (gset G2 nx _) nx _) nx _) nx _ = G3
  have k3 : ∀ b, b ≠ nx → G3 b = G2 b := fun b hb => by rw [← hG3, gset_ne _ _ hb, gset_ne _ _ hb, gset_ne _ _ hb, gset_ne _ _ hb]
  have kn3 : G3 nx = some (rdc (nx + 1) (nx + 3) 0 0 (V.2.2.2.1 0) 0 0 (V.2.2.2.1 0)) := by rw [← hG3]; exact gset_eq _ _ _
  clear hG3
  have kk3 : ∀ b, b < nx → G3 b = G b := fun b hb => by rw [k3 b (by omega), k2 b (by omega)]; exact k1 b hb
  refine w_pos (gC_at kn3) ?_
  have hSC : StC V G3 := a5.keep (fun a ha => kk3 a (by omega))
  obtain ⟨od, s1, s2, s3⟩ := hSC 0 (by decide)
  have hB : RdB V G3 (nx + 6) nx (nx + 1) (nx + 2) (nx + 3) 0 0 (V.2.2.2.1 0) 0 0 (V.2.2.2.1 0) S.2.2.2 := ⟨kn3, t1.keep (by rw [k3 _ (by omega), k2 _ (by omega)]) (by rw [k3 _ (by omega), k2 _ (by omega)]), hSC, by omega, by omega, by omega, by omega, by omega, by omega, by omega, g5⟩
  have hP : RPl V G3 (nx + 6) (nx + 2) (nx + 3) dfl := ⟨nx + 4, e0, [], nx + 5, f, (k3 _ (by omega)).trans u2, ⟨u3.keep (k3 _ (by omega)) (k3 _ (by omega)), rfl, by decide, by decide, fun j hj => absurd hj (by simp)⟩, (k3 _ (by omega)).trans u4, u5, by omega, by omega, by omega, by omega, Or.inl u1, fun a ha => absurd ha (by simp), by omega, by omega⟩
  refine w_yB (all_f2 (nx := nx + 6) (ow := []) hV hB (by omega) hP ?_ (by unfold OnS; decide) s3.any s1 s2 rfl) ?_ ?_
  · refine ⟨⟨fun r hr => absurd hr (by simp [dfl]), by decide, by decide⟩, by decide, by decide, by decide, by decide, by decide⟩
  case refine_3 =>
    rintro q G4 c4 s4 ⟨y1, y2, y3, y4⟩
    cases eR : pAll S.2.2.2 6 false false dfl 0 (lexT S.2.2.2 0) with
    | inr y => rw [eR] at y4; obtain ⟨w, -⟩ := y4; cases w
    | inl b =>
      rw [eR] at y4
      obtain ⟨q', w, -, -, fs, ft1, ft2⟩ := y4
      cases w
      have es : spTells S = (-10 - nI b, S) := by unfold spTells; rw [eR]
      rw [es]
      exact w_xI ft1 rfl ft2 (w_ret ⟨rfl, ul, h00.low (by omega) (fun b hb => by rw [y3 b hb]; exact kk3 b hb), by unfold Cost; omega⟩)
  rintro y G4 c4 s4 ⟨y1, y2, y3, y4⟩
  cases eR : pAll S.2.2.2 6 false false dfl 0 (lexT S.2.2.2 0) with
  | inl b => rw [eR] at y4; obtain ⟨q, w, -⟩ := y4; cases w
  | inr z =>
  obtain ⟨p', it'⟩ := z
  rw [eR] at y4
  obtain ⟨w, hP4, hpk, at_, bg, wo, nu, on, hrd⟩ := y4
  cases w
  have es : spTells S = (nI it', ((p', S.1.2), noteL S.2.1 S.1, S.2.2.1, [])) := by unfold spTells; rw [eR]
  rw [es]
  clear u1 u2 u3 u4 u5 u6 k2 k3 kn1 kn0 kn3 hB hP hSC s1 s2 s3 t1 t2 k0 k1
  generalize hN4 : nx + 6 + c4 = N4 at hP4
  have k4 : ∀ b, b < nx → G4 b = G b := fun b hb => by rw [y3 b hb]; exact kk3 b hb
  obtain ⟨ul', hu', huS, hup, hul⟩ : ∃ ul' : List Nat, ul'.Nodup ∧ (∀ a, a ∈ ul → a ∈ ul') ∧ nx + 3 ∈ ul' ∧ ul'.length ≤ ul.length + 1 := by
    by_cases c : nx + 3 ∈ ul
    · exact ⟨ul, hu, fun _ h => h, c, by omega⟩
    · exact ⟨(nx + 3) :: ul, List.nodup_cons.mpr ⟨c, hu⟩, fun a h => List.mem_cons_of_mem _ h, List.mem_cons_self, by simp⟩
  have hW4 : Wc V G4 N4 xo (fun a => if nx ≤ a ∧ a < N4 then nx + 3 else tg a) d0 da ia ro rd tx (gLast S.1.1 (0, 0, 0) S.1.2) S.1 pl i0 i1 S.2.2.2 (fun a => a ∈ ul') := hW.tag (by omega) k4 (fun a ha => if_neg (by omega)) (fun a ha hz => by
    by_cases c : nx ≤ a ∧ a < N4
    · exact c.2
    · simp only [if_neg c] at hz
      have := (b1 a hz).2
      omega) huS
  have tgN4 : ∀ a, nx ≤ a → a < N4 → (fun a => if nx ≤ a ∧ a < N4 then nx + 3 else tg a) a = nx + 3 := fun a h1 h2 => if_pos ⟨h1, h2⟩
  generalize (fun a => if nx ≤ a ∧ a < N4 then nx + 3 else tg a) = tg4 at hW4 tgN4
  refine w_pos (gC_at hW4.2.2.1.1) (w_call (notes_c hV hW4) ?_)
  rintro - G5 n5 s5 ⟨v1, v2, tg5, pl5, v3, v4, v5, v6, v7⟩
  have he : (d0, S.1) ∈ dsk d0 S.1 pl5 i0 i1 := by simp [dsk]
  obtain ⟨x1, x2, x3⟩ := v4.2.2.1
  obtain ⟨hdk, hok0⟩ := v4.2.2.2.2.2.2.2.2.1 _ he
  have hfr := v4.fresh
  refine w_xR x1 rfl rfl (w_some (w_pos hdk.gC (w_call (copy_w (e := (d0, S.1)) hV v4 he) ?_)))
  rintro r G6 n6 s6 ⟨rfl, w1, w2, w3, tg6, w4, w5, w6, w7, w8⟩
  simp only at w6 w7
  generalize hN5 : N4 + n5 = N5 at *
  have kk : ∀ a, nx ≤ a → a < N4 → G6 a = G4 a ∧ tg6 a = nx + 3 := fun a h1 h2 => by
    have hta := tgN4 a h1 h2
    have hta5 : tg5 a = nx + 3 := (v3 a h2).trans hta
    exact ⟨by rw [w7 a (by omega) (by omega)]; exact v6 a (by omega) (by omega) (by omega) (by omega), by rw [w4 a (by omega)]; exact hta5⟩
  refine w_xR ((kk nx (by omega) (by omega)).1.trans hrd) rfl rfl (w_some ?_)
  obtain ⟨po0, to, z1, z2, z3, z4, z5⟩ := id w6
  refine w_xF (fs' := [va_rf (some (nx + 3)), va_rf (some to)]) z1 rfl (Nat.le_of_ble_eq_true rfl) z3 rfl ?_
  generalize hG7 : gset G6 N5 _ = G7
  have e7 : ∀ b, b ≠ N5 → G7 b = G6 b := fun b hb => by rw [← hG7]; exact gset_ne _ _ hb
  have n7 : G7 N5 = some (.inr (1, [va_rf (some (nx + 3)), va_rf (some to)])) := by rw [← hG7]; exact gset_eq _ _ _
  clear hG7
  have hc7 : ∀ a, a < V.1 → G7 a = G6 a := fun a ha => e7 a (by omega)
  obtain ⟨hdk6, -⟩ := w5.2.2.2.2.2.2.2.2.1 _ he
  have hW7 : Wc V G7 (N5 + n6) xo tg6 d0 da ia ro rd tx (gLast S.1.1 (0, 0, 0) S.1.2) S.1 pl5 i0 i1 S.2.2.2 (fun a => a ∈ ul') := v4.setd (by omega) w4 (fun a _ hz => (w5.2.1 a hz).2) (fun a h1 h2 => by rw [e7 a (by have := (v4.2.1 a h1).2; omega)]; exact w7 a h1 h2) (fun a ha => (hc7 a ha).trans (w8 a ha)) (hdk6.move (T := fun t => t = N5) a1 (fun a h1 h2 => ⟨rfl, e7 a (fun e => h2 (by rw [e]; exact z2))⟩) (by omega) (by
    rintro q fs w hq
    rw [w, z1] at hq; cases hq) hc7 (fun q w => w)) hok0
  have hD7 : DkA V G7 tg6 (fun a => a ∈ ul') N5 (p', S.1.2) := ⟨nx + 3, to, n7, z2, z3, z4.keep (fun a ha => e7 a ha.2) hc7, hP4.pla (by omega) (fun a h1 h2 => ⟨by rw [e7 a (by omega)]; exact (kk a (by omega) h2).1, (kk a (by omega) h2).2⟩) (fun a ha => by rw [hc7 a ha, w8 a ha]; exact v7 a ha) hup⟩
  refine w_pos (gC_at hW7.2.2.1.1) (w_call (becomes_w hV hW7 hu' hD7 ⟨hpk, hok0.2⟩ (fun hm => hfr (List.mem_cons_of_mem _ hm))) ?_)
  rintro - G8 n8 s8 ⟨q1, q2, q3⟩
  obtain ⟨tx8, t8, t9, t10⟩ := wd_text0 q3
  refine w_bind t8 (w_some (w_pos t9 (w_call t10 ?_)))
  rintro - G9 n9 s9 ⟨rfl, rfl, hfin⟩
  unfold hB_X0_tells_65
  refine w_ret ⟨rfl, ul', ?_, by unfold Cost; omega⟩
  rw [v5, e1, e2, e3] at hfin
  rw [show nx + (1 + (2 + (1 + (2 + 0) + (c4 + (n5 + (n6 + (n8 + (0 + 0)))))))) = N5 + n6 + n8 by omega]
  exact hfin
end X

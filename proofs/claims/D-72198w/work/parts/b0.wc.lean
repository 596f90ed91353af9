/-! PURE 67: what goes on, in the heap, by tags: each cell of a part has the address of its part's head as its tag -/
def stL : List (List Nat) := [[], [48], [59], [114, 117, 108, 101], [99, 104, 97, 110, 99, 101], [115, 117, 109, 115], []]
/-- the String constants -/
def StC (V : HEn) (G : Gh) : Prop := ∀ i (h : i < stL.length), ∃ d, V.2.2.2.1 i < V.1 ∧ d < V.1 ∧ Str V G (V.2.2.2.1 i) d stL[i] True
theorem StC.keep {V : HEn} {G G' : Gh} (h : StC V G) (hk : ∀ a, a < V.1 → G' a = G a) : StC V G' := by
  intro i hi
  obtain ⟨d, h1, h2, f, hh, z, q1, q2, q3⟩ := h i hi
  exact ⟨d, h1, h2, f, hh, z, (hk _ h1).trans q1, (hk _ h2).trans q2, q3⟩
def dsk (d0 : Nat) (k0 : Dk) (pl : List (Nat × Dk)) (i0 i1 : Option (Nat × Dk)) : List (Nat × Dk) := (d0, k0) :: (pl ++ i0.toList ++ i1.toList)
def Wc (V : HEn) (G : Gh) (nx xo : Nat) (tg : Nat → Nat) (d0 da ia ro rd tx : Nat) (st : Nat × Nat × Nat) (k0 : Dk) (pl : List (Nat × Dk)) (i0 i1 : Option (Nat × Dk)) (txt : List Nat) (U : Nat → Prop) : Prop :=
  (0 < V.1 ∧ V.1 ≤ nx ∧ Cst V G ∧ Dgt V G ∧ StC V G) ∧ (∀ a, tg a ≠ 0 → V.1 ≤ a ∧ a < nx) ∧
  (G xo = some (xcell d0 da pl.length ia ro st tx) ∧ tg xo = xo ∧ V.1 ≤ xo) ∧
  (∃ fd, G da = some (.inl (V.2.1 5, 6, .inr (.inr (.inr (.inr fd))))) ∧ tg da = xo ∧ ∀ i (h : i < pl.length), fd i = some (pl[i]).1) ∧
  (∃ fi, G ia = some (.inl (V.2.1 5, 2, .inr (.inr (.inr (.inr fi))))) ∧ tg ia = xo ∧ fi 0 = i0.map Prod.fst ∧ fi 1 = i1.map Prod.fst) ∧ da ≠ ia ∧
  ((∃ rl, AL V G ro rd rl) ∧ tg ro = ro ∧ (tg rd = ro ∨ rd < V.1)) ∧
  (∃ td tn, SBc V G tx td tn txt ∧ tg tx = tx ∧ tg td = tx ∧ tn ≤ 254 ∧ txt.length ≤ 120) ∧
  (∀ e ∈ dsk d0 k0 pl i0 i1, DkA V G tg U e.1 e.2 ∧ DkOk e.2) ∧ ((dsk d0 k0 pl i0 i1).map Prod.fst).Nodup ∧ pl.length ≤ 6
/-- the rows that were gone through -/
def RwA (V : HEn) (G : Gh) (tg : Nat → Nat) (ro rd : Nat) (rws : List Nat) (rl : List Rw) : Prop := AL V G ro rd (rws.map some) ∧ (∀ a ∈ rws, tg a = ro ∧ a ≠ rd ∧ a ≠ ro) ∧ rws.length = rl.length ∧ ∀ j (_ : j < rws.length) (_ : j < rl.length), G rws[j] = some (rcell rl[j])
theorem hd_ne {G : Gh} {a b c c' : Nat} {fs fs' : List Value} (h : G a = some (.inr (c, fs))) (h' : G b = some (.inr (c', fs'))) (hc : c ≠ c') : a ≠ b := fun e => by
  rw [e, h'] at h
  simp only [Option.some.injEq, Sum.inr.injEq, Prod.mk.injEq] at h
  exact hc h.1.symm
theorem hd_na {G : Gh} {a b c : Nat} {fs : List Value} {z} (h : G a = some (.inr (c, fs))) (h' : G b = some (.inl z)) : a ≠ b := fun e => by
  rw [e, h'] at h
  cases h
section X
variable {V : HEn} {G G' : Gh} {nx xo d0 da ia ro rd tx : Nat} {tg tg' : Nat → Nat} {st : Nat × Nat × Nat} {k0 : Dk} {pl : List (Nat × Dk)} {i0 i1 : Option (Nat × Dk)} {txt : List Nat} {U : Nat → Prop}
/-- the parts of what goes on lie apart -/
theorem Wc.heads (h : Wc V G nx xo tg d0 da ia ro rd tx st k0 pl i0 i1 txt U) : xo ≠ 0 ∧ ro ≠ 0 ∧ tx ≠ 0 ∧ ro ≠ xo ∧ tx ≠ xo ∧ tx ≠ ro ∧ rd ≠ xo ∧ rd ≠ ro ∧ da ≠ xo ∧ ia ≠ xo ∧ (∃ fs, G ro = some (.inr (8, fs))) ∧ (∃ fs, G tx = some (.inr (24, fs))) ∧ ∀ e ∈ dsk d0 k0 pl i0 i1, e.1 ≠ 0 ∧ e.1 ≠ xo ∧ e.1 ≠ ro ∧ e.1 ≠ tx := by
  obtain ⟨⟨a1, a2, a3, a4, a5⟩, b1, ⟨c1, c2, c3⟩, ⟨fd, d1, d2, d3⟩, ⟨fi, e1, e2, e3, e4⟩, da1, ⟨⟨rl, f1⟩, f2, f3⟩, ⟨td, tn, g1, g2, g3, g4, g5⟩, h1, h2, h3⟩ := h
  obtain ⟨ml, nn, ff, z1, z2, z3, z4, z5, z6⟩ := f1
  obtain ⟨ml', ff', y1, y2, y3, y4, y5, y6, y7⟩ := g1
  refine ⟨by omega, by omega, by omega, hd_ne z1 c1 (by decide), hd_ne y1 c1 (by decide), hd_ne y1 z1 (by decide), Ne.symm (hd_na c1 z2), Ne.symm (hd_na z1 z2), Ne.symm (hd_na c1 d1), Ne.symm (hd_na c1 e1), ⟨_, z1⟩, ⟨_, y1⟩, fun e he => ?_⟩
  obtain ⟨⟨po, to, q1, q2, q3, -⟩, -⟩ := h1 e he
  exact ⟨by omega, hd_ne q1 c1 (by decide), hd_ne q1 z1 (by decide), hd_ne q1 y1 (by decide)⟩
theorem Wc.sep (h : Wc V G nx xo tg d0 da ia ro rd tx st k0 pl i0 i1 txt U) {a : Nat} (h1 : tg a ≠ 0) (h2 : tg a ≠ ro) : a ≠ ro ∧ a ≠ rd ∧ a < nx ∧ V.1 ≤ a := by
  obtain ⟨⟨a1, a2, a3, a4, a5⟩, b1, -, -, -, -, ⟨-, f2, f3⟩, -⟩ := h
  obtain ⟨l1, l2⟩ := b1 a h1
  refine ⟨fun e => h2 (by rw [e]; exact f2), fun e => ?_, l2, l1⟩
  rw [← e] at f3
  rcases f3 with w | w
  · exact h2 w
  · omega
theorem Wc.sepx (h : Wc V G nx xo tg d0 da ia ro rd tx st k0 pl i0 i1 txt U) {a : Nat} (h1 : tg a ≠ xo) : a ≠ xo := fun e => h1 (by rw [e]; exact h.2.2.1.2.1)
end X
/-- tags with those of new cells -/
def tgN (nx : Nat) (tg nt : Nat → Nat) (a : Nat) : Nat := if a < nx then tg a else nt a
theorem tgN_old {nx : Nat} {tg nt : Nat → Nat} {a : Nat} (h : a < nx) : tgN nx tg nt a = tg a := if_pos h
theorem tgN_new {nx : Nat} {tg nt : Nat → Nat} {a : Nat} (h : nx ≤ a) : tgN nx tg nt a = nt a := if_neg (Nat.not_lt.mpr h)
section X
variable {V : HEn} {G : Gh} {nx xo d0 da ia ro rd tx : Nat} {tg : Nat → Nat} {st : Nat × Nat × Nat} {k0 : Dk} {pl : List (Nat × Dk)} {i0 i1 : Option (Nat × Dk)} {txt : List Nat} {U : Nat → Prop}
theorem goes_w (hV : 1200 ≤ V.2.2.2.2) (h : Wc V G nx xo tg d0 da ia ro rd tx st k0 pl i0 i1 txt U) : wH (hF_X0_goesThrough V G nx xo) (fun _ G' c s => c ≤ 170 ∧ s ≤ 6700 ∧ ∃ tg' rd' rws, Wc V G' (nx + c) xo tg' d0 da ia ro rd' tx (gLast k0.1 (0, 0, 0) k0.2) k0 pl i0 i1 txt U ∧ RwA V G' tg' ro rd' rws (gRows k0.1 (0, 0, 0) k0.2) ∧ (∀ a, tg a = ro → a ≠ ro → a ≠ rd → G' a = G a)) := by
  obtain ⟨hx0, hr0, ht0, rx, txx, txr, rdx, rdr, dax, iax, ⟨fro, hro⟩, ⟨ftx, htx⟩, hds⟩ := h.heads
  have sep := fun {a : Nat} (h1 : tg a ≠ 0) (h2 : tg a ≠ ro) => h.sep h1 h2
  have sepx := fun {a : Nat} (h1 : tg a ≠ xo) => h.sepx h1
  have hW := h
  obtain ⟨⟨a1, a2, a3, a4, a5⟩, b1, ⟨c1, c2, c3⟩, ⟨fd, d1, d2, d3⟩, ⟨fi, e1, e2, e3, e4⟩, da1, ⟨⟨rl, f1⟩, f2, f3⟩, ⟨td, tn, g1, g2, g3, g4, g5⟩, h1, h2, h3⟩ := h
  obtain ⟨hD0, hok0⟩ := h1 (d0, k0) (by simp [dsk])
  obtain ⟨z0, zx, zr, zt⟩ := hds (d0, k0) (by simp [dsk])
  simp only at hD0 hok0 z0 zx zr zt
  obtain ⟨po, to, q1, q2, q3, q4, q5⟩ := id hD0
  obtain ⟨lo, ld, ad, ch, mcx, f, p1, p2, p3, p4, p5, p6, p7, p8, p9, p10, p11⟩ := id q5
  have poz : po ≠ 0 := by omega
  have pox : po ≠ xo := hd_ne p1 c1 (by decide)
  have por : po ≠ ro := hd_ne p1 hro (by decide)
  have pod : po ≠ d0 := hd_ne p1 q1 (by decide)
  have hto := q4.fo.1
  have sd : ∀ {a : Nat}, tg a = d0 → a < nx ∧ a ≠ xo ∧ a ≠ ro ∧ a ≠ rd ∧ V.1 ≤ a := fun {a} e => by
    obtain ⟨y1, y2, y3, y4⟩ := sep (a := a) (by rw [e]; exact z0) (by rw [e]; exact zr)
    exact ⟨y3, sepx (by rw [e]; exact zx), y1, y2, y4⟩
  have sp : ∀ {a : Nat}, tg a = po → a < nx ∧ a ≠ xo ∧ a ≠ ro ∧ a ≠ rd ∧ a ≠ to := fun {a} e => by
    obtain ⟨y1, y2, y3, y4⟩ := sep (a := a) (by rw [e]; exact poz) (by rw [e]; exact por)
    exact ⟨y3, sepx (by rw [e]; exact pox), y1, y2, fun w => pod (by rw [← e, w]; exact hto.1)⟩
  have rdl : rd < nx := by
    rcases f3 with w | w
    · exact (b1 rd (by rw [w]; exact hr0)).2
    · exact Nat.lt_of_lt_of_le w a2
  have xl := (b1 xo (by rw [c2]; exact hx0)).2
  have rl' := (b1 ro (by rw [f2]; exact hr0)).2
  refine w_mono (go_mid (F := fun a => tg a = d0 ∧ a ≠ d0) (k := k0) hV a3 a2 c1 q1 q4 p1 p2 hok0 (fun a ha => by obtain ⟨y1, y2, y3, y4, y5⟩ := sd ha.1; exact ⟨y1, y2, y3, y4⟩) (by obtain ⟨y1, y2, y3, y4, y5⟩ := sd q2; exact ⟨y1, y2, y3, y4, fun w => hto.2 w.symm⟩) ?_ f1 ⟨xl, rl', rdl, Ne.symm rx, Ne.symm rdx⟩ c3 (fun a ha => (sd ha.1).2.2.2.2)) ?_
  · intro b hb'
    have one : ∀ {a : Nat}, tg a = po → a < nx ∧ a ≠ xo ∧ a ≠ ro ∧ (a ≠ rd ∨ a < V.1) ∧ a ≠ to := fun {a} e => by
      obtain ⟨y1, y2, y3, y4, y5⟩ := sp e
      exact ⟨y1, y2, y3, Or.inl y4, y5⟩
    rcases hb' with w | w | w | w
    · rw [w]; exact one p5
    · rw [w]; exact one p6
    · rcases p7 with z | z
      · rw [w]; exact one z
      · have hro1 := (b1 ro (by rw [f2]; exact hr0)).1
        have hto1 := (sd hto.1).2.2.2.2
        rw [w]
        exact ⟨by omega, by omega, by omega, Or.inr z, by omega⟩
    · exact one (p8 b w)
  rintro - G' c s ⟨u1, u2, u3, u4, ⟨kn, rd', rws, v1, v2, v3, v4, v5, v6, v7⟩, u5⟩
  have fr : ∀ a, tg a ≠ 0 → a ≠ xo → a ≠ ro → a ≠ rd → tg a ≠ d0 → G' a = G a := fun a w1 w2 w3 w4 w5 => u5 a (b1 a w1).2 w2 w3 (Or.inl w4) (fun e => w5 (by rw [e]; exact hto.1))
  have fc : ∀ a, a < V.1 → G' a = G a := fun a ha => u5 a (by omega) (by omega) (by have := (b1 ro (by rw [f2]; exact hr0)).1; omega) (Or.inr ha) (by have := (sd hto.1).2.2.2.2; omega)
  have fx : ∀ a, tg a = xo → a ≠ xo → G' a = G a := fun a w1 w2 => by
    obtain ⟨y1, y2, y3, y4⟩ := sep (a := a) (by rw [w1]; exact hx0) (by rw [w1]; exact Ne.symm rx)
    exact fr a (by rw [w1]; exact hx0) w2 y1 y2 (by rw [w1]; exact Ne.symm zx)
  have ft : ∀ a, tg a = tx → G' a = G a := fun a w1 => by
    obtain ⟨y1, y2, y3, y4⟩ := sep (a := a) (by rw [w1]; exact ht0) (by rw [w1]; exact txr)
    exact fr a (by rw [w1]; exact ht0) (sepx (by rw [w1]; exact txx)) y1 y2 (by rw [w1]; exact Ne.symm zt)
  clear hV a3 a4 a5 p3 p4 p9 p11
  refine ⟨u1, u2, tgN nx tg (fun a => if a = kn then d0 else if a = rd' ∨ a ∈ rws then ro else 0), rd', rws, ⟨⟨a1, by omega, (hW.1.2.2.1).keep fc, (hW.1.2.2.2.1).keep fc, (hW.1.2.2.2.2).keep fc⟩, fun a ha => ?_, ⟨u3, by rw [tgN_old xl]; exact c2, c3⟩, ⟨fd, by rw [fx da d2 dax]; exact d1, ?_, d3⟩, ⟨fi, by rw [fx ia e2 iax]; exact e1, ?_, e3, e4⟩, da1, ⟨⟨_, v3⟩, by rw [tgN_old rl']; exact f2, ?_⟩, ⟨td, tn, g1.keep (ft tx g2) (ft td g3), ?_, ?_, g4, g5⟩, fun e he => ⟨?_, (h1 e he).2⟩, h2, h3⟩, ⟨v3, fun a ha => ⟨?_, (v5 a ha).2.2, ?_⟩, by rw [v6, gRows_len], v7⟩, fun a w1 w2 w3 => fr a (by rw [w1]; exact hr0) (sepx (by rw [w1]; exact rx)) w2 w3 (by rw [w1]; exact Ne.symm zr)⟩
  · by_cases ca : a < nx
    · rw [tgN_old ca] at ha
      have := b1 a ha
      omega
    · rw [tgN_new (by omega)] at ha
      by_cases c2' : a = kn
      · rcases v2 with w | w
        · have := sd w.1; omega
        · omega
      · rw [if_neg c2'] at ha
        by_cases c3' : a = rd' ∨ a ∈ rws
        · rcases c3' with w | w
          · omega
          · have := v5 a w; omega
        · rw [if_neg c3'] at ha; exact absurd rfl ha
  · rw [tgN_old (b1 da (by rw [d2]; exact hx0)).2]; exact d2
  · rw [tgN_old (b1 ia (by rw [e2]; exact hx0)).2]; exact e2
  · rcases v4 with w | w
    · rw [w, tgN_old rdl]; exact f3
    · refine Or.inl ?_
      rw [tgN_new w.1, if_neg (fun e => ?_), if_pos (Or.inl rfl)]
      rcases v2 with z | z
      · have := sd z.1; omega
      · exact z.2.2.1 e.symm
  · rw [tgN_old (b1 tx (by rw [g2]; exact ht0)).2]; exact g2
  · rw [tgN_old (b1 td (by rw [g3]; exact ht0)).2]; exact g3
  · by_cases ce : e.1 = d0
    · have ee : e = (d0, k0) := by
        rcases List.mem_cons.mp (show e ∈ (d0, k0) :: (pl ++ i0.toList ++ i1.toList) from he) with w | w
        · exact w
        · exfalso
          have hn : d0 ∉ (pl ++ i0.toList ++ i1.toList).map Prod.fst := (List.nodup_cons.mp (show (d0 :: (pl ++ i0.toList ++ i1.toList).map Prod.fst).Nodup from h2)).1
          exact hn (ce ▸ List.mem_map_of_mem w)
      rw [ee]
      refine ⟨po, to, u4.trans q1, by rw [tgN_old (sd q2).1]; exact q2, q3, v1.mono (fun a ha => ?_), q5.move a1 (fun a ha => ?_) fc (fun w => w)⟩
      · rcases ha with w | w
        · rw [tgN_old (sd w.1).1]; exact w
        · rcases v2 with z | z
          · rw [w, tgN_old (sd z.1).1]; exact z
          · rw [w, tgN_new z.1, if_pos rfl]
            exact ⟨rfl, by have := (sd q2).1; omega⟩
      · obtain ⟨y1, y2, y3, y4, y5⟩ := sp ha
        exact ⟨by rw [tgN_old y1]; exact ha, fr a (by rw [ha]; exact poz) y2 y3 y4 (by rw [ha]; exact pod)⟩
    · refine (h1 e he).1.move (T := fun t => t = xo ∨ t = ro ∨ t = d0) a1 (fun a w1 w2 => ?_) ?_ ?_ fc (fun q w => w)
      · obtain ⟨y1, y2, y3, y4⟩ := sep w1 (fun w => w2 (Or.inr (Or.inl w)))
        exact ⟨tgN_old y3, fr a w1 (sepx (fun w => w2 (Or.inl w))) y1 y2 (fun w => w2 (Or.inr (Or.inr w)))⟩
      · rintro (w | w | w)
        · exact (hds e he).2.1 w
        · exact (hds e he).2.2.1 w
        · exact ce w
      · rintro q fs (w | w | w) hq
        · rw [w, c1] at hq; cases hq
        · rw [w, hro] at hq; cases hq
        · rw [w, q1] at hq; cases hq
  · have := v5 a ha
    rw [tgN_new this.1, if_neg (fun e => ?_), if_pos (Or.inr ha)]
    rcases v2 with z | z
    · have := sd z.1; omega
    · exact z.2.2.2 (e ▸ ha)
  · have := (v5 a ha).1
    omega
end X

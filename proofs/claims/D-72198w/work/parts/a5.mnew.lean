/-! PURE 62: Machine's constructor; Plan.machine -/
section X
variable {V : HEn} {G : Gh} {nx mo po lo ld : Nat} {ad : List Nat} {rs : List Ru}
theorem RL.ok {V : HEn} {G : Gh} (h : RL V G lo ld ad rs) : RsOk rs := by
  obtain ⟨h1, h2, h3, h4, h5⟩ := h
  refine ⟨fun r hr => ?_, h3, h4⟩
  obtain ⟨i, hi, e⟩ := List.getElem_of_mem hr
  rw [← e]
  exact (h5 i (by omega) hi).2
theorem sts_row {q j s : Nat} {g : Nat → Int32} (hq : (sts rs).getD j 0 = q) (h : RowV rs q (sts rs) g 5) (hs : s < 5) : g s = tell (stT rs j s) := by
  rw [(h s hs).1]
  unfold stT
  rw [hq]
theorem mach_new (hV : 1200 ≤ V.2.2.2.2) (hC : Cst V G) (hD : Dgt V G) (h : PlR V G po lo ld ad rs) (hlow : po < nx ∧ lo < nx ∧ ld < nx ∧ ∀ a ∈ ad, a < nx) (hm : ∀ y, (y = po ∨ y = lo ∨ y = ld ∨ y ∈ ad) → y ≠ mo) (hmb : V.1 ≤ mo) (hmo : mo < nx) (hb : V.1 ≤ nx) (hM : G mo = some (.inr (7, [.null, .null, .null, .null, .null, .null]))) :
    wH (hF_X8_init V G nx mo (some po)) (fun _ G' c s => MAt V G' mo rs (fun a => a = mo ∨ (nx ≤ a ∧ a < nx + c)) ∧ c ≤ 9600 ∧ s ≤ 140000 ∧ ∀ b, b < nx → b ≠ mo → G' b = G b) := by
  have hok : RsOk rs := h.2.ok
  obtain ⟨p1, p2, p3, p4, p5⟩ := plcs_ok hok.2.2
  obtain ⟨⟨e0, ff, e1, e2, e3⟩, -⟩ := id hC
  unfold hF_X8_init
  refine w_tick (w_call (al_init (f := ff) (gset_eq _ _ _) hb e1 e2 (by rw [gset_ne _ _ (by omega)]; exact e3)) ?_)
  rintro - G1 c1 s1 ⟨t1, t2, rfl, rfl⟩
  have k1 : ∀ b, b ≠ nx → G1 b = G b := fun b hb' => by rw [t2 b hb']; exact gset_ne _ _ hb'
  refine w_xF (by rw [k1 mo (by omega)]; exact hM) rfl (Nat.le_of_ble_eq_true rfl) hmb rfl (w_tick ?_)
  refine w_call (IM.new (show V.1 ≤ nx + 1 + 0 by omega) (gset_eq _ _ _)) ?_
  rintro - G2 c2 s2 ⟨rfl, rfl, u1, u2⟩
  have k2 : ∀ b, b ≠ nx + 1 → b ≠ mo → G2 b = G1 b := fun b b1 b2 => by rw [u2 b b1, gset_ne _ _ b1, gset_ne _ _ b2]
  have k2m : G2 mo = some (.inr (7, [.null, va_rf (some nx), .null, .null, .null, .null])) := by rw [u2 mo (by omega), gset_ne _ _ (by omega)]; exact gset_eq _ _ _
  refine w_xF k2m rfl (Nat.le_of_ble_eq_true rfl) hmb rfl (w_tick ?_)
  refine w_call (al_init (f := ff) (gset_eq _ _ _) (show V.1 ≤ nx + 1 + 0 + 1 + 0 by omega) e1 e2 (by rw [gset_ne _ _ (by omega), gset_ne _ _ (by omega), k2 e0 (by omega) (by omega), k1 e0 (by omega)]; exact e3)) ?_
  rintro - G3 c3 s3 ⟨v1, v2, rfl, rfl⟩
  have k3 : ∀ b, b ≠ nx + 2 → b ≠ mo → G3 b = G2 b := fun b b1 b2 => by rw [v2 b (by omega), gset_ne _ _ (by omega), gset_ne _ _ b2]
  have k3m : G3 mo = some (.inr (7, [.null, va_rf (some nx), va_rf (some (nx + 1)), .null, .null, .null])) := by rw [v2 mo (by omega), gset_ne _ _ (by omega)]; exact gset_eq _ _ _
  unfold hB_X8_init_34
  refine w_some (w_xF k3m rfl (Nat.le_of_ble_eq_true rfl) hmb rfl (w_tick ?_))
  refine w_call (IM.new22 (show V.1 ≤ nx + 1 + 0 + 1 + 0 + 1 + 0 by omega) (gset_eq _ _ _)) ?_
  rintro - G4 c4 s4 ⟨rfl, rfl, x1, x2⟩
  have k4 : ∀ b, b ≠ nx + 3 → b ≠ mo → G4 b = G3 b := fun b b1 b2 => by rw [x2 b (by omega), gset_ne _ _ (by omega), gset_ne _ _ b2]
  have k4m : G4 mo = some (.inr (7, [.null, va_rf (some nx), va_rf (some (nx + 1)), .null, va_rf (some (nx + 2)), .null])) := by rw [x2 mo (by omega), gset_ne _ _ (by omega)]; exact gset_eq _ _ _
  refine w_xF (fs' := [.null, va_rf (some nx), va_rf (some (nx + 1)), .null, va_rf (some (nx + 2)), va_rf (some (nx + 3))]) k4m rfl (Nat.le_of_ble_eq_true rfl) hmb rfl (w_xF (fs' := [va_rf (some po), va_rf (some nx), va_rf (some (nx + 1)), .null, va_rf (some (nx + 2)), va_rf (some (nx + 3))]) (gset_eq _ _ _) rfl (Nat.le_of_ble_eq_true rfl) hmb rfl ?_)
  generalize hG5 : gset (gset G4 mo (.inr (7, [.null, va_rf (some nx), va_rf (some (nx + 1)), .null, va_rf (some (nx + 2)), va_rf (some (nx + 3))]))) mo (.inr (7, [va_rf (some po), va_rf (some nx), va_rf (some (nx + 1)), .null, va_rf (some (nx + 2)), va_rf (some (nx + 3))])) = G5
  have k5 : ∀ b, b ≠ mo → G5 b = G4 b := fun b b2 => by rw [← hG5, gset_ne _ _ b2, gset_ne _ _ b2]
  have hM5 : G5 mo = some (mcell po nx (nx + 1) none (nx + 2) (nx + 3)) := by rw [← hG5]; exact gset_eq _ _ _
  have kk : ∀ b, b < nx → b ≠ mo → G5 b = G b := fun b b1 b2 => by rw [k5 b b2, k4 b (by omega) b2, k3 b (by omega) b2, k2 b (by omega) b2, k1 b (by omega)]
  have kc : ∀ a, a < V.1 → G5 a = G a := fun a ha => kk a (by omega) (by omega)
  have hC5 := hC.keep kc
  have ixn : ixL [] = fun _ => none := by funext x; simp [ixL]
  have hP5 : MPl V G5 po nx e0 (nx + 1) lo ld ad rs (fun a => a = nx + 1) [] := by
    refine ⟨h.keep (kk _ hlow.1 (hm _ (by simp))) (kk _ hlow.2.1 (hm _ (by simp))) (kk _ hlow.2.2.1 (hm _ (by simp))) (fun a ha => kk _ (hlow.2.2.2 a ha) (hm a (by simp [ha]))), ⟨[], ?_, rfl, fun j hj => absurd hj (Nat.not_lt_zero _)⟩, ?_, by simp, by simp⟩
    · refine t1.keep ?_ ?_
      · rw [k5 nx (by omega), k4 nx (by omega) (by omega), k3 nx (by omega) (by omega), k2 nx (by omega) (by omega)]
      · rw [k5 e0 (by omega), k4 e0 (by omega) (by omega), k3 e0 (by omega) (by omega), k2 e0 (by omega) (by omega)]
    · rw [ixn]
      refine u1.keep (fun a ha => ?_) (fun a ha => ?_)
      · have : a = nx + 1 := ha
        subst this
        rw [k5 _ (by omega), k4 _ (by omega) (by omega), k3 _ (by omega) (by omega)]
      · rw [k5 _ (by omega), k4 _ (by omega) (by omega), k3 _ (by omega) (by omega)]
  have hA5 : AL V G5 (nx + 2) e0 [] := by
    refine v1.keep ?_ ?_
    · rw [k5 _ (by omega), k4 _ (by omega) (by omega)]
    · rw [k5 e0 (by omega), k4 e0 (by omega) (by omega)]
  have hI5 : IM V G5 (nx + 3) 22 (fun a => a = nx + 3) (fun _ => none) 0 := by
    refine x1.keep (fun a ha => ?_) (fun a ha => k5 a (by omega))
    have : a = nx + 3 := ha
    exact k5 a (by omega)
  have hL5 : MLow (nx + 4) po nx e0 (nx + 1) lo ld ad (fun a => a = nx + 1) := by
    obtain ⟨l1, l2, l3, l4⟩ := hlow
    exact ⟨by omega, by omega, by omega, by omega, by omega, by omega, fun a ha => by have := l4 a ha; omega, fun a ha => by have : a = nx + 1 := ha; omega⟩
  have below : ∀ y, (y = mo ∨ y = po ∨ y = lo ∨ y = ld ∨ y ∈ ad) → y < nx := fun y hy => by
    obtain ⟨l1, l2, l3, l4⟩ := hlow
    rcases hy with w | w | w | w | w
    · omega
    · omega
    · omega
    · omega
    · exact l4 y w
  have hDi5 : MDis V mo po nx e0 lo ld ad (fun a => a = nx + 1) := by
    refine ⟨hb, by omega, by omega, by omega, fun a ha => by have : a = nx + 1 := ha; omega, fun y hy => ?_⟩
    have := below y hy
    exact ⟨by omega, by omega, fun w => by have : y = nx + 1 := w; omega⟩
  refine w_pos (gC_at hM5) ?_
  refine w_call (comes_at (x := 0) hV hC5 hM5 hP5 hL5 hDi5 (by omega) (by omega) (by decide) (fun _ => by simp)) ?_
  rintro - G6 c6 s6 ⟨z1, z2, ⟨bd6, F6, z3, z4, z5, z6, z7⟩, z8⟩
  have ea : addN [] 0 = [0] := rfl
  rw [ea] at z1 z2 z3
  simp only [List.length_nil, List.length_singleton] at z1 z2
  have fr6 : ∀ b, b < nx + 4 → b ≠ nx → (b ≠ e0 ∨ b < V.1) → b ≠ nx + 1 → G6 b = G5 b := fun b b1 b2 b3 b4 => z8 b b1 b2 b3 b4
  have c6 : ∀ a, a < V.1 → G6 a = G5 a := fun a ha => fr6 a (by omega) (by omega) (Or.inr ha) (by omega)
  have hM6 : G6 mo = some (mcell po nx (nx + 1) none (nx + 2) (nx + 3)) := by rw [fr6 mo (by omega) (by omega) (Or.inl (by omega)) (by omega)]; exact hM5
  generalize hn6 : nx + 1 + 0 + 1 + 0 + 1 + 0 + 1 + 0 + _ = nx6
  have hn6' : nx + 4 + _ = nx6 := hn6
  rw [hn6'] at z4
  refine place_loop (mo := mo) (po := po) (bo := nx) (pl := nx + 1) (so := nx + 2) (nu := nx + 3) (lo := lo) (ld := ld) (ad := ad) (rs := rs) (pt := none) hV 64 0 V.2.2.2.2 G6 nx6 bd6 F6 [0] _ rfl (by omega) (by omega) (hC5.keep c6) hM6 z3 z4 z5 (by omega) (by omega) (by simp) ?_
  intro m' G7 c7 s7 bd7 F7 y1 y2 y3 y4 y5 y6 y7 y8 y9
  have epl : bfsL rs 64 0 [0] = plcs rs := rfl
  rw [epl] at y1 y4 y7 y8 ⊢
  simp only [List.length_singleton] at y7 y8
  have fr7 : ∀ b, b < nx + 4 → b ≠ nx → (b ≠ e0 ∨ b < V.1) → b ≠ nx + 1 → G7 b = G5 b := fun b b1 b2 b3 b4 => by
    rw [y9 b (by omega) b2 (by rcases z6 with w | w; rw [w]; exact b3; exact Or.inl (by omega)) (fun w => by rcases z7 b w with z | z; exact b4 z; omega)]
    exact fr6 b b1 b2 b3 b4
  have fr7' : ∀ b, b < nx → b ≠ mo → G7 b = G b := fun b b1 b2 => by
    rw [fr7 b (by omega) (by omega) (by omega) (by omega)]; exact kk b b1 b2
  have hM7 : G7 mo = some (mcell po nx (nx + 1) none (nx + 2) (nx + 3)) := by rw [fr7 mo (by omega) (by omega) (Or.inl (by omega)) (by omega)]; exact hM5
  have hil := y1.2.1
  rw [hL_X8_init_60]
  refine w_xR hM7 rfl rfl (w_some (w_pos hil.gC (w_call0 (il_size hil) (w_pos (Int32.le_refl _) (w_xR hM7 rfl rfl (w_some (w_pos hil.gC (w_call0 (il_size hil) (w_gn (by omega) (w_tick ?_))))))))))
  refine w_xF (by rw [gset_ne _ _ (by omega)]; exact hM7) rfl (Nat.le_of_ble_eq_true rfl) hmb rfl ?_
  generalize hn7 : nx6 + c7 = nx7 at y2 ⊢
  show wH (hL_X8_init_160 V mo V.2.2.2.2 (gset (gset G7 nx7 (.inl (V.2.1 0, (plcs rs).length, .inl (fun _ => 0)))) mo (mcell po nx (nx + 1) (some nx7) (nx + 2) (nx + 3))) (nx7 + 1) (nI 0) (nI (mm rs (plcs rs) 0))) _
  generalize hG8 : gset (gset G7 nx7 (.inl (V.2.1 0, (plcs rs).length, .inl (fun _ => (0 : Int32))))) mo (mcell po nx (nx + 1) (some nx7) (nx + 2) (nx + 3)) = G8
  have k8 : ∀ b, b ≠ mo → b ≠ nx7 → G8 b = G7 b := fun b b1 b2 => by rw [← hG8, gset_ne _ _ b1, gset_ne _ _ b2]
  have hM8 : G8 mo = some (mcell po nx (nx + 1) (some nx7) (nx + 2) (nx + 3)) := by rw [← hG8]; exact gset_eq _ _ _
  have hpa8 : G8 nx7 = some (.inl (V.2.1 0, (plcs rs).length, .inl (fun _ => (0 : Int32)))) := by rw [← hG8, gset_ne _ _ (by omega)]; exact gset_eq _ _ _
  have c8 : ∀ a, a < V.1 → G8 a = G a := fun a ha => by rw [k8 a (by omega) (by omega), fr7' a (by omega) (by omega)]
  have hP8 : MPl V G8 po nx bd7 (nx + 1) lo ld ad rs F7 (plcs rs) := y1.lowm y2 y3 hm hmb (by omega) (fun b b1 b2 => k8 b b2 (by omega))
  refine rounds_at (so := nx + 2) (nu := nx + 3) (bo := nx) (bd := bd7) (pl := nx + 1) (F := F7) hV hok hm hmb 4 0 V.2.2.2.2 G8 (nx7 + 1) nx7 0 (fun _ => 0) _ rfl (by omega) (by omega) (hC.keep c8) (hD.keep c8) hM8 hP8 (y2.mono (by omega)) y3 (by omega) (by omega) (by omega) hpa8 (fun i hi => rfl) (by show 0 < 1; omega) (by show 1 ≤ 36; omega) ?_
  intro G9 c9 s9 pa9 f9 g1 g2 g3 g4 g5 g6 g7 g8
  have fr9 : ∀ b, b < nx7 → b ≠ mo → G9 b = G7 b := fun b b1 b2 => by rw [g8 b (by omega) b2, k8 b b2 (by omega)]
  have hP9 : MPl V G9 po nx bd7 (nx + 1) lo ld ad rs F7 (plcs rs) := y1.lowm y2 y3 hm hmb (by omega) fr9
  have hFx : ∀ a, F7 a → a ≠ nx + 2 ∧ a ≠ nx + 3 := fun a ha => by
    rcases y6 a ha with w | w
    · rcases z7 a w with z | z
      · have : a = nx + 1 := z; omega
      · omega
    · omega
  have hbdx : bd7 ≠ nx + 2 ∧ bd7 ≠ nx + 3 := by
    rcases y5 with w | w
    · rcases z6 with z | z <;> omega
    · omega
  have hFpt : prt rs (plcs rs) (rdL rs (plcs rs) 4 0) = fpt rs := rfl
  rw [hFpt] at g5
  have c9' : ∀ a, a < V.1 → G9 a = G a := fun a ha => by rw [fr9 a (by omega) (by omega), fr7' a (by omega) (by omega)]
  have hN9 : NCtx V G9 (nx7 + 1 + c9) mo po nx bd7 (nx + 1) (nx + 2) (nx + 3) lo ld pa9 ad rs F7 f9 := by
    refine ⟨hC.keep c9', g1, hP9, y2.mono (by omega), by omega, by omega, g4, g5, hok, by omega, fun y hy => ?_, by omega, by omega⟩
    rcases hy with w | w | w | w | w | w | w | w | w
    · omega
    · omega
    · have := below y (by simp [w]); omega
    · omega
    · rw [w]; exact ⟨hbdx.2, hbdx.1⟩
    · have := below y (by simp [w]); omega
    · have := below y (by simp [w]); omega
    · have := below y (by simp [w]); omega
    · exact ⟨(hFx y w).2, (hFx y w).1⟩
  have hI9 : IM V G9 (nx + 3) 22 (fun a => a = nx + 3) (fun _ => none) 0 := by
    refine hI5.keep (fun a ha => ?_) (fun a ha => ?_)
    · have : a = nx + 3 := ha
      rw [fr9 a (by omega) (by omega), fr7 a (by omega) (by omega) (by omega) (by omega)]
    · rw [fr9 a (by omega) (by omega), fr7 a (by omega) (by omega) (by omega) (by omega)]
  have hA9 : AL V G9 (nx + 2) e0 [] := by
    refine hA5.keep ?_ ?_
    · rw [fr9 _ (by omega) (by omega), fr7 _ (by omega) (by omega) (by omega) (by omega)]
    · rw [fr9 _ (by omega) (by omega), fr7 _ (by omega) (by omega) (by omega) (by omega)]
  refine w_pos (gC_at g1) (w_call (numbers_at (Fn := fun _ => True) hV (by omega) (by omega) (by omega) hN9 hI9 hA9 e1 e2) ?_)
  rintro - G10 c10 s10 ⟨wo, wd, sd, Fn, rows, q1, q2, q3, q4, q5, q6⟩
  have hN10 := hN9.keep q6
  obtain ⟨-, n2, n3, n4, n5, n6, n7, n8, -⟩ := hN10
  have hl64 : (plcs rs).length ≤ 64 := p4
  refine w_ret ⟨⟨po, nx, nx + 1, pa9, nx + 2, sd, nx + 3, F7, Fn, rows, f9, n2, n3.2.2.1, n7, n8, q1.2.1, q2.1, q3, fun j hj => ?_, Or.inl rfl, Or.inr (by omega), Or.inr (by omega), ?_, fun y hy => ?_, fun a ha => ?_, fun a ha => ?_, hok⟩, by omega, by omega, fun b b1 b2 => ?_⟩
  · obtain ⟨g, j1, j2⟩ := q2.2.1 j hj
    exact ⟨g, j1, fun s hs => sts_row rfl j2 hs⟩
  · have := q2.2.2.1
    rcases q2.2.2.2.1 with w | w
    · exact Or.inr w
    · exact Or.inl (Or.inr (by omega))
  · have := q2.2.2.2.2.2.2.2 y hy
    exact Or.inr (by omega)
  · rcases y6 a ha with w | w
    · rcases z7 a w with z | z
      · have : a = nx + 1 := z
        exact Or.inr (by omega)
      · have := y2.2.2.2.2.2.2.2 a ha
        exact Or.inr (by omega)
    · have := y2.2.2.2.2.2.2.2 a ha
      exact Or.inr (by omega)
  · rcases q1.2.2.2.2.1 a ha with w | w
    · exact Or.inr (by omega)
    · exact Or.inr (by omega)
  · rw [q6 b (by omega) (by omega) (by omega), fr9 b (by omega) b2]; exact fr7' b b1 b2
end X

/-! PURE 9E: the constructor of RunWatch -/
def tgX (o nx a : Nat) : Nat := if a = o then o else if a = nx ∨ a = nx + 4 then nx else if a = nx + 1 ∨ a = nx + 2 ∨ a = nx + 3 then nx + 1 else if a = nx + 5 ∨ a = nx + 6 then o else if a = nx + 7 then nx + 7 else if a = nx + 8 ∨ a = nx + 9 then nx + 8 else 0
theorem tgX_all {o nx : Nat} (h : o < nx) : tgX o nx o = o ∧ tgX o nx nx = nx ∧ tgX o nx (nx + 4) = nx ∧ tgX o nx (nx + 1) = nx + 1 ∧ tgX o nx (nx + 2) = nx + 1 ∧ tgX o nx (nx + 3) = nx + 1 ∧ tgX o nx (nx + 5) = o ∧ tgX o nx (nx + 6) = o ∧ tgX o nx (nx + 7) = nx + 7 ∧ tgX o nx (nx + 8) = nx + 8 ∧ tgX o nx (nx + 9) = nx + 8 ∧ ∀ a, tgX o nx a ≠ 0 → o ≤ a ∧ a < nx + 10 := by
  unfold tgX
  refine ⟨if_pos rfl, ?_, ?_, ?_, ?_, ?_, ?_, ?_, ?_, ?_, ?_, fun a ha => ?_⟩
  · rw [if_neg (by omega), if_pos (by omega)]
  · rw [if_neg (by omega), if_pos (by omega)]
  · rw [if_neg (by omega), if_neg (by omega), if_pos (by omega)]
  · rw [if_neg (by omega), if_neg (by omega), if_pos (by omega)]
  · rw [if_neg (by omega), if_neg (by omega), if_pos (by omega)]
  · rw [if_neg (by omega), if_neg (by omega), if_neg (by omega), if_pos (by omega)]
  · rw [if_neg (by omega), if_neg (by omega), if_neg (by omega), if_pos (by omega)]
  · rw [if_neg (by omega), if_neg (by omega), if_neg (by omega), if_neg (by omega), if_pos (by omega)]
  · rw [if_neg (by omega), if_neg (by omega), if_neg (by omega), if_neg (by omega), if_neg (by omega), if_pos (by omega)]
  · rw [if_neg (by omega), if_neg (by omega), if_neg (by omega), if_neg (by omega), if_neg (by omega), if_pos (by omega)]
  · by_cases c : o ≤ a ∧ a < nx + 10
    · exact c
    · rw [if_neg (by omega), if_neg (by omega), if_neg (by omega), if_neg (by omega), if_neg (by omega), if_neg (by omega)] at ha
      exact absurd rfl ha
theorem x_new {V : HEn} {G : Gh} {nx o : Nat} (hb : V.1 ≤ o) (ho : o < nx) (h0 : 0 < V.1) (hC : Cst V G) (hD : Dgt V G) (hS : StC V G) (h : G o = some (.inr (0, [.null, .null, .int 0, .null, .null, .int 0, .int 0, .int 0, .null]))) : wH (hF_X0_init V G nx o) (fun _ G' c s => c = 10 ∧ s ≤ 60 ∧ Wd V G' (nx + 10) o ((dfl, []), [], (none, none), []) [nx + 1]) := by
  obtain ⟨⟨ea, ff, e1, e2, e3⟩, -⟩ := id hC
  unfold hF_X0_init
  refine w_tick (w_call (desk_new (hC.keep (fun a ha => gset_ne _ _ (by omega))) (show V.1 ≤ nx by omega) (show nx < nx + 1 by omega) (gset_eq _ _ _)) ?_)
  rintro - G1 c1 s1 ⟨rfl, rfl, t1, t2, ⟨e0, f, t3, t4, t5, t6, t7⟩, t8⟩
  have k1 : ∀ b, b < nx → G1 b = G b := fun b hb' => by rw [t8 b (by omega) (by omega)]; exact gset_ne _ _ (by omega)
  refine w_xF (fs' := [va_rf (some nx), .null, .int 0, .null, .null, .int 0, .int 0, .int 0, .null]) ((k1 o ho).trans h) rfl (Nat.le_of_ble_eq_true rfl) hb rfl (w_gn (n := 6) (by omega) (w_tick ?_))
  refine w_xF (fs' := [va_rf (some nx), va_rf (some (nx + 5)), .int 0, .null, .null, .int 0, .int 0, .int 0, .null]) (by rw [gset_ne _ _ (by omega)]; exact gset_eq _ _ _) rfl (Nat.le_of_ble_eq_true rfl) hb rfl (w_gn (n := 2) (by omega) (w_tick ?_))
  refine w_xF (fs' := [va_rf (some nx), va_rf (some (nx + 5)), .int 0, va_rf (some (nx + 6)), .null, .int 0, .int 0, .int 0, .null]) (by rw [gset_ne _ _ (by omega)]; exact gset_eq _ _ _) rfl (Nat.le_of_ble_eq_true rfl) hb rfl (w_tick ?_)
  generalize hG2 : gset (gset (gset (gset (gset G1 o _) _ _) o _) _ _) o _ = G2
  have k2 : ∀ b, b ≠ o → b ≠ nx + 5 → b ≠ nx + 6 → G2 b = G1 b := fun b b1 b2 b3 => by rw [← hG2, gset_ne _ _ b1, gset_ne _ _ (by omega), gset_ne _ _ b1, gset_ne _ _ (by omega), gset_ne _ _ b1]
  have n5 : G2 (nx + 5) = some (.inl (V.2.1 5, 6, .inr (.inr (.inr (.inr (fun _ => none)))))) := by
    rw [← hG2, gset_ne _ _ (by omega), gset_ne _ _ (by omega), gset_ne _ _ (by omega)]; exact gset_eq _ _ _
  have n6 : G2 (nx + 6) = some (.inl (V.2.1 5, 2, .inr (.inr (.inr (.inr (fun _ => none)))))) := by
    rw [← hG2, gset_ne _ _ (by omega)]; exact gset_eq _ _ _
  have no : G2 o = some (.inr (0, [va_rf (some nx), va_rf (some (nx + 5)), .int 0, va_rf (some (nx + 6)), .null, .int 0, .int 0, .int 0, .null])) := by
    rw [← hG2]; exact gset_eq _ _ _
  clear hG2
  refine w_call (al_init (f := ff) (gset_eq _ _ _) (by omega) e1 e2 (by rw [gset_ne _ _ (by omega), k2 ea (by omega) (by omega) (by omega), k1 ea (by omega)]; exact e3)) ?_
  rintro - G3 c3 s3 ⟨u1, u2, rfl, rfl⟩
  have k3 : ∀ b, b ≠ nx + 7 → G3 b = G2 b := fun b hb' => by rw [u2 b (by omega)]; exact gset_ne _ _ (by omega)
  unfold hB_X0_init_40
  refine w_some (w_xF (fs' := [va_rf (some nx), va_rf (some (nx + 5)), .int 0, va_rf (some (nx + 6)), va_rf (some (nx + 7)), .int 0, .int 0, .int 0, .null]) ((k3 o (by omega)).trans no) rfl (Nat.le_of_ble_eq_true rfl) hb rfl (w_tick ?_))
  refine w_call (sb_new (by omega) (by omega) (gset_eq _ _ _)) ?_
  rintro - G4 c4 s4 ⟨rfl, rfl, v1, v2⟩
  have k4 : ∀ b, b ≠ o → b < nx + 8 → G4 b = G3 b := fun b b1 b2 => by rw [v2 b (by omega) (by omega), gset_ne _ _ (by omega), gset_ne _ _ b1]
  refine w_xF (fs' := [va_rf (some nx), va_rf (some (nx + 5)), .int 0, va_rf (some (nx + 6)), va_rf (some (nx + 7)), .int 0, .int 0, .int 0, va_rf (some (nx + 8))]) (by rw [v2 o (by omega) (by omega), gset_ne _ _ (by omega)]; exact gset_eq _ _ _) rfl (Nat.le_of_ble_eq_true rfl) hb rfl ?_
  generalize hG5 : gset G4 o _ = G5
  have k5 : ∀ b, b ≠ o → G5 b = G4 b := fun b hb' => by rw [← hG5]; exact gset_ne _ _ hb'
  have o5 : G5 o = some (xcell nx (nx + 5) 0 (nx + 6) (nx + 7) (0, 0, 0) (nx + 8)) := by rw [← hG5]; exact gset_eq _ _ _
  clear hG5
  have q1 : ∀ b, b ≠ o → b < nx + 5 → G5 b = G1 b := fun b b1 b2 => by rw [k5 b b1, k4 b b1 (by omega), k3 b (by omega), k2 b b1 (by omega) (by omega)]
  have qc : ∀ a, a < V.1 → G5 a = G a := fun a ha => by rw [q1 a (by omega) (by omega)]; exact k1 a (by omega)
  have qc1 : ∀ a, a < V.1 → G5 a = G1 a := fun a ha => q1 a (by omega) (by omega)
  obtain ⟨g1, g2, g3, g4, g5, g6, g7, g8, g9, g10, g11, g12⟩ := tgX_all ho
  have hAL : AL V G5 (nx + 7) ea [] := u1.keep (by rw [k5 _ (by omega)]; exact k4 _ (by omega) (by omega)) (by rw [k5 _ (by omega)]; exact k4 _ (by omega) (by omega))
  have hP : PlA V G5 (tgX o nx) (fun a => a ∈ [nx + 1]) (nx + 1) dfl := ⟨nx + 2, e0, [], nx + 3, none, f, (q1 _ (by omega) (by omega)).trans t4, ⟨t5.keep (q1 _ (by omega) (by omega)) (qc1 _ t3), rfl, by decide, by decide, fun j hj => absurd hj (by simp)⟩, (q1 _ (by omega) (by omega)).trans t6, t7, g4, g5, Or.inr t3, fun a ha => absurd ha (by simp), g6, by omega, Or.inl ⟨rfl, List.mem_singleton.mpr rfl⟩⟩
  have hDk : DkA V G5 (tgX o nx) (fun a => a ∈ [nx + 1]) nx (dfl, []) := ⟨nx + 1, nx + 4, (q1 _ (by omega) (by omega)).trans t1, g2, by omega, (t2.keep (fun a ha => q1 a (by omega) (by omega)) qc1).mono (fun a ha => by
    have : a = nx + 4 := by omega
    rw [this]
    exact ⟨g3, by omega⟩), hP⟩
  refine w_ret ⟨by omega, by omega, tgX o nx, nx, nx + 5, nx + 6, nx + 7, ea, nx + 8, [], none, none, [], ⟨⟨h0, by omega, hC.keep qc, hD.keep qc, hS.keep qc⟩, fun a ha => by have := g12 a ha; omega, ⟨o5, g1, hb⟩, ⟨_, by rw [k5 _ (by omega), k4 _ (by omega) (by omega), k3 _ (by omega)]; exact n5, g7, fun i hi => absurd hi (by simp)⟩, ⟨_, by rw [k5 _ (by omega), k4 _ (by omega) (by omega), k3 _ (by omega)]; exact n6, g8, rfl, rfl⟩, by omega, ⟨⟨[], hAL⟩, g9, Or.inr e2⟩, ⟨nx + 9, 16, v1.keep (k5 _ (by omega)) (k5 _ (by omega)), g10, g11, by omega, by simp⟩, fun e he => ?_, ?_, by simp⟩, ⟨hAL, by simp, rfl, fun j hj => absurd hj (by simp)⟩, rfl, rfl, rfl, by simp⟩
  · have : e = (nx, (dfl, [])) := by simpa [dsk] using he
    rw [this]
    exact ⟨hDk, dfl_ok, t2.fo.2.2.1, by simp, by simp⟩
  · simp [dsk]

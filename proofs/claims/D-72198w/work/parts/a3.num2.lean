/-! PURE 60: Machine.numbers -/
def SR (V : HEn) (G : Gh) (rs : List Ru) (nx0 nx wo wd so sd : Nat) (Fn : Nat → Prop) (rows W : List Nat) : Prop :=
  AL V G so sd (rows.map some) ∧ (∀ j (h : j < rows.length), ∃ g, G rows[j] = some (.inl (V.2.1 0, 5, .inl g)) ∧ RowV rs (W.getD j 0) W g 5) ∧ sd < nx ∧ (sd < V.1 ∨ nx0 ≤ sd) ∧ (sd ≠ wd ∨ sd < V.1) ∧ sd ≠ wo ∧ ¬ Fn sd ∧ (∀ y ∈ rows, nx0 ≤ y ∧ y < nx ∧ y ≠ wo ∧ y ≠ wd ∧ ¬ Fn y ∧ y ≠ sd)
section X
variable {V : HEn} {nx0 mo po bo bd pl so nu lo ld pa wo : Nat} {ad : List Nat} {rs : List Ru} {Fp : Nat → Prop} {f : Nat → Int32}
theorem NSt.len {G : Gh} {nx wd : Nat} {Fn : Nat → Prop} {W : List Nat} (h : NSt V G rs nx0 nx wo wd nu Fn W) (hok : RsOk rs) : W.length ≤ 36 := by
  have := nodup_sub h.2.2.1 (m := List.range 36) (fun a ha => by
    obtain ⟨k, k1, k2⟩ := h.2.2.2.1 a ha
    rw [← k2]; exact List.mem_range.mpr (fpt_36 hok k1))
  simpa using this
theorem num_out (hV : 1200 ≤ V.2.2.2.2) (hnu : nu < nx0) (hso : so < nx0) (hns : nu ≠ so) : ∀ (j k m : Nat) (G : Gh) (nx wd sd : Nat) (Fn : Nat → Prop) (W rows : List Nat), k + j = 64 → j + 1 ≤ m → nx0 ≤ nx → k ≤ W.length → NCtx V G nx0 mo po bo bd pl so nu lo ld pa ad rs Fp f → NSt V G rs nx0 nx wo wd nu Fn W → SR V G rs nx0 nx wo wd so sd Fn rows W → rows.length = k →
    wH (hL_X8_numbers_47 V mo m G nx (some wo) (nI k)) (fun _ G' c s => ∃ wd' sd' Fn' rows', NSt V G' rs nx0 (nx + c) wo wd' nu Fn' (nbL (dlP rs) j k W) ∧ SR V G' rs nx0 (nx + c) wo wd' so sd' Fn' rows' (nbL (dlP rs) j k W) ∧ rows'.length = (nbL (dlP rs) j k W).length ∧ c + 4 * W.length ≤ 12 * j + 4 * (nbL (dlP rs) j k W).length ∧ s + 300 * W.length ≤ 200 * j + 300 * (nbL (dlP rs) j k W).length ∧ ∀ b, b < nx0 → b ≠ nu → b ≠ so → G' b = G b) := by
  intro j
  induction j with
  | zero =>
    intro k m G nx wd sd Fn W rows hj hm hnx hkW hN hS hR hrk
    have := hS.len hN.2.2.2.2.2.2.2.2.1
    omega
  | succ j ih =>
    intro k m G nx wd sd Fn W rows hj hm hnx hkW hN hS hR hrk
    obtain ⟨m, rfl⟩ := Nat.exists_eq_succ_of_ne_zero (show m ≠ 0 by omega)
    obtain ⟨hC, hM, hP, hL, hmo, hpl, hpa, hf, hok, hb, hne, hnub, hsob⟩ := id hN
    obtain ⟨w1, w2, w3, w4, w5, w6, w7, w8, w9, w10, w11, w12⟩ := id hS
    obtain ⟨r1, r2, r3, r4, r5, r6, r7, r8⟩ := id hR
    have hWl := hS.len hok
    rw [hL_X8_numbers_47]
    refine w_some (w_pos w1.gC (w_call0 (il_size w1) ?_))
    cases ek : W[k]? with
    | none =>
      have e : W.length = k := by
        have := List.getElem?_eq_none_iff.mp ek
        omega
      have eb : nbL (dlP rs) (j + 1) k W = W := by rw [nbL, ek]
      rw [eb]
      exact w_pos (by rw [e]; exact Int32.le_refl _) (w_ret ⟨wd, sd, Fn, rows, hS, hR, by omega, by omega, by omega, fun _ _ _ _ => rfl⟩)
    | some q =>
      have hk := (List.getElem?_eq_some_iff.mp ek).1
      have eb : nbL (dlP rs) (j + 1) k W = nbL (dlP rs) j (k + 1) (nF (dlP rs) q W (List.range' 0 5)) := by rw [nbL, ek]
      rw [eb]
      refine w_neg (fun z => by have := (nI_leq (by omega) (by omega)).mp z; omega) (w_gn (n := 5) (by omega) (w_tick ?_))
      have zk : ∀ b, b ≠ nx → gset G nx (.inl (V.2.1 0, 5, .inl (fun _ => (0 : Int32)))) b = G b := fun b hb' => gset_ne _ _ hb'
      refine num_in (nx0 := nx0) (mo := mo) (po := po) (bo := bo) (bd := bd) (pl := pl) (so := so) (nu := nu) (lo := lo) (ld := ld) (pa := pa) (ad := ad) (rs := rs) (Fp := Fp) (f := f) (ra := nx) (at_ := k) (q := q) hV hnu 5 0 V.2.2.2.2 _ (nx + 1) wd Fn W (fun _ => 0) _ rfl (by omega) (by omega) (hN.keep (fun b b1 _ _ => zk b (by omega))) (hS.low (by omega) (by omega) (by omega) (fun b hb' => zk b (by omega))) ⟨gset_eq _ _ _, by omega, by omega, by omega, by omega, fun w => by rcases w5 nx w with z | z <;> omega⟩ (fun i hi => absurd hi (Nat.not_lt_zero _)) ek ?_
      intro m' G' c1 s1 wd' Fn' g' v1 v2 v3 v4 v5 v6 v7 v8
      obtain ⟨tt, htt⟩ := nF_pre (dlP rs) q (List.range' 0 5) W
      have hFn : ∀ a, Fn' a → a = nu ∨ nx0 ≤ a := fun a ha => by
        rcases v5 a ha with w | w
        · rcases w5 a w with z | z
          · exact Or.inl z
          · exact Or.inr z.1
        · exact Or.inr (by omega)
      have fr : ∀ b, b < nx → b ≠ wo → (b ≠ wd ∨ b < V.1) → ¬ Fn b → G' b = G b := fun b b1 b2 b3 b4 => by rw [v8 b (by omega) b2 b3 b4 (by omega)]; exact zk b (by omega)
      have frl : ∀ b, b < nx0 → b ≠ nu → G' b = G b := fun b b1 b2 => fr b (by omega) (by omega) (by omega) (fun w => by rcases w5 b w with z | z <;> omega)
      have hN1 : NCtx V G' nx0 mo po bo bd pl so nu lo ld pa ad rs Fp f := hN.keep (fun b b1 b2 _ => frl b b1 b2)
      obtain ⟨hC1, hM1, -, -, -, -, hpa1, -⟩ := id hN1
      obtain ⟨y1, y2, y3, y4, y5, y6⟩ := id v2
      have nFd : ∀ a, Fn' a → a < nx → Fn a := fun a ha hx => by rcases v5 a ha with w | w; exact w; omega
      have rowK : ∀ y ∈ rows, G' y = G y := fun y hy => by
        obtain ⟨z1, z2, z3, z4, z5, z6⟩ := r8 y hy
        exact fr y z2 z3 (Or.inl z4) z5
      have hA1 : AL V G' so sd (rows.map some) := r1.keep (frl so hso (Ne.symm hns)) (fr sd r3 r6 r5 r7)
      rw [hL_X8_numbers_64]
      refine w_pos (Int32.le_refl _) (w_xR hM1 rfl rfl (w_some (w_pos (by obtain ⟨ml, nn, ff, z, -⟩ := hA1; exact gC_at z) ?_)))
      refine w_call (al_add (x := some nx) hA1 (by simp; omega) ⟨by omega, by omega⟩ (by omega) trivial (fun y hy => ?_) (gokA_arr (c := 100) y1 (by simp [okL]) (by decide)) (fun y hy a ha => ?_)) ?_
      · obtain ⟨a, ha, rfl⟩ := List.mem_map.mp hy
        obtain ⟨i, hi, e⟩ := List.getElem_of_mem ha
        obtain ⟨g, z1, z2⟩ := r2 i hi
        rw [e] at z1
        exact gokA_arr (c := 100) ((rowK a ha).trans z1) (by simp [okL]) (by decide)
      · rcases hy with w | w
        · obtain ⟨a', ha', rfl⟩ := List.mem_map.mp w
          obtain ⟨z1, z2, z3, z4, z5, z6⟩ := r8 a' ha'
          cases ha
          exact ⟨by omega, by omega, z6⟩
        · rw [w] at ha
          cases ha
          exact ⟨by omega, by omega, by omega⟩
      rintro - G2 c2 s2 ⟨-, x2, x3, ⟨sd2, x4, x5⟩, x6⟩
      rw [nI_1]
      have low2 : ∀ a, a < V.1 → G2 a = G' a := fun a ha => x6 a (by omega) (Or.inr ha) (by omega)
      have sdne : ∀ b, nx0 ≤ b → b ≠ sd → b < nx + 1 + c1 → G2 b = G' b := fun b b1 b2 b3 => x6 b (by omega) (Or.inl b2) (by omega)
      obtain ⟨u1, u2, u3, u4, u5, u6, u7, u8, u9, u10, u11, u12⟩ := id v1
      have sdF' : ¬ Fn' sd := fun w => r7 (nFd sd w r3)
      have sdwd' : sd ≠ wd' ∨ sd < V.1 := by rcases v4 with w | w; rw [w]; exact r5; omega
      have hS2 : NSt V G2 rs nx0 (nx + 1 + c1 + c2) wo wd' nu Fn' (nF (dlP rs) q W (List.range' 0 5)) := by
        refine v1.keep (by omega) (sdne wo u6 (Ne.symm r6) u7) ?_ (fun a ha => ?_) low2
        · rcases u9 with w | w
          · exact low2 _ w
          · rcases sdwd' with z | z
            · exact sdne wd' w (Ne.symm z) u8
            · exact sdne wd' w (by omega) u8
        · rcases u5 a ha with w | w
          · subst w
            exact x6 a hns (Or.inl (fun e => sdF' (e ▸ ha))) (by omega)
          · exact sdne a w.1 (fun e => sdF' (e ▸ ha)) w.2
      have hsd2 : (sd2 = sd ∧ c2 = 0) ∨ (sd2 = nx + 1 + c1 ∧ c2 = 1) := x5
      have hmap : (rows ++ [nx]).map some = rows.map some ++ [some nx] := by simp
      have hR2 : SR V G2 rs nx0 (nx + 1 + c1 + c2) wo wd' so sd2 Fn' (rows ++ [nx]) (nF (dlP rs) q W (List.range' 0 5)) := by
        refine ⟨by rw [hmap]; exact x4, fun i hi => ?_, by omega, by omega, ?_, ?_, ?_, fun y hy => ?_⟩
        · by_cases ci : i < rows.length
          · rw [List.getElem_append_left ci]
            obtain ⟨g, z1, z2⟩ := r2 i ci
            have hm := List.getElem_mem ci
            obtain ⟨z3, z4, z5, z6, z7, z8⟩ := r8 _ hm
            refine ⟨g, ?_, ?_⟩
            · rw [sdne _ z3 z8 (by omega), rowK _ hm]; exact z1
            · rw [htt]
              have : (W ++ tt).getD i 0 = W.getD i 0 := by
                simp [List.getElem?_append_left (show i < W.length by omega)]
              rw [this]
              exact z2.app
          · have ei : i = rows.length := by simp at hi; omega
            subst ei
            simp only [List.getElem_concat_length]
            refine ⟨g', ?_, ?_⟩
            · rw [sdne nx (by omega) (by omega) (by omega)]; exact y1
            · have : (nF (dlP rs) q W (List.range' 0 5)).getD rows.length 0 = q := by
                rw [htt, hrk]
                simp [List.getElem?_append_left hk, ek]
              rw [this]; exact v3
        · rcases hsd2 with w | w
          · rw [w.1]; exact sdwd'
          · exact Or.inl (by omega)
        · rcases hsd2 with w | w
          · rw [w.1]; exact r6
          · omega
        · rcases hsd2 with w | w
          · rw [w.1]; exact sdF'
          · intro z
            rcases u5 sd2 z with z2 | z2 <;> omega
        · rcases List.mem_append.mp hy with w | w
          · obtain ⟨z1, z2, z3, z4, z5, z6⟩ := r8 y w
            exact ⟨z1, by omega, z3, by omega, fun e => z5 (nFd y e z2), by omega⟩
          · rw [List.mem_singleton.mp w]
            exact ⟨by omega, by omega, by omega, by omega, y6, by omega⟩
      refine w_mono (ih (k + 1) m G2 (nx + 1 + c1 + c2) wd' sd2 Fn' _ (rows ++ [nx]) (by omega) (by omega) (by omega) (by rw [htt, List.length_append]; omega) (hN1.keep (fun b b1 b2 b3 => x6 b b3 (by omega) (by omega))) hS2 hR2 (by simp; omega)) ?_
      rintro - G3 c3 s3 ⟨wd3, sd3, Fn3, rows3, z1, z2, z3, z4, z5, z6⟩
      refine ⟨wd3, sd3, Fn3, rows3, ?_, ?_, z3, by omega, by omega, fun b b1 b2 b3 => ?_⟩
      · rw [show nx + (1 + (c1 + (c2 + c3))) = nx + 1 + c1 + c2 + c3 by omega]; exact z1
      · rw [show nx + (1 + (c1 + (c2 + c3))) = nx + 1 + c1 + c2 + c3 by omega]; exact z2
      · rw [z6 b b1 b2 b3, x6 b b3 (by omega) (by omega)]; exact frl b b1 b2
/-- numbers: the states of a plan -/
theorem numbers_at {G : Gh} {Fn : Nat → Prop} {e0 : Nat} (hV : 1200 ≤ V.2.2.2.2) (hnu : nu < nx0) (hso : so < nx0) (hns : nu ≠ so) (hN : NCtx V G nx0 mo po bo bd pl so nu lo ld pa ad rs Fp f) (hI : IM V G nu 22 (fun a => a = nu) (fun _ => none) 0) (hA : AL V G so e0 []) (he : V.2.2.1 0 = some e0) (he1 : e0 < V.1) :
    wH (hF_X8_numbers V G nx0 mo) (fun _ G' c s => ∃ wo wd' sd' Fn' rows', NSt V G' rs nx0 (nx0 + c) wo wd' nu Fn' (sts rs) ∧ SR V G' rs nx0 (nx0 + c) wo wd' so sd' Fn' rows' (sts rs) ∧ rows'.length = (sts rs).length ∧ c ≤ 1000 ∧ s ≤ 24000 ∧ ∀ b, b < nx0 → b ≠ nu → b ≠ so → G' b = G b) := by
  obtain ⟨hC, hM, hP, hL, hmo, hpl, hpa, hf, hok, hb, hne, hnub, hsob⟩ := id hN
  have hf0 := hf 0 (plcs_pos hok.2.2)
  have h36 := fpt_36 hok (plcs_pos hok.2.2)
  obtain ⟨p1, p2, p3, p4, p5⟩ := plcs_ok hok.2.2
  unfold hF_X8_numbers
  have gnx : ∀ (x : va_E) b, b < nx0 → gset G nx0 x b = G b := fun x b hb' => gset_ne _ _ (by omega)
  refine w_tick ?_
  have hE : ∃ ff, G e0 = some (.inl (V.2.1 3, 0, .inr (.inr (.inr (.inr ff))))) := by
    obtain ⟨ml, nn, ff, z1, z2, z3, z4, z5, z6, z7, z8⟩ := hA
    rcases z8 with w | w
    · omega
    · exact ⟨ff, w.2 ▸ z2⟩
  obtain ⟨ff, hE⟩ := hE
  refine w_call (al_init (f := ff) (gset_eq _ _ _) hb he he1 (by rw [gnx _ _ (by omega)]; exact hE)) ?_
  rintro - G1 c1' s1' ⟨t1, t2, rfl, rfl⟩
  have k1 : ∀ b, b < nx0 → G1 b = G b := fun b hb' => by rw [t2 b (by omega)]; exact gnx _ b hb'
  have hN1 : NCtx V G1 nx0 mo po bo bd pl so nu lo ld pa ad rs Fp f := hN.keep (fun b b1 _ _ => k1 b b1)
  obtain ⟨hC1, hM1, -, -, -, -, hpa1, -⟩ := id hN1
  have hI1 : IM V G1 nu 22 (fun a => a = nu) (fun _ => none) 0 := hI.keep (fun a ha => k1 a (by omega)) (fun a ha => k1 a (by omega))
  refine w_xR hM1 rfl rfl (w_xR hM1 rfl rfl (w_some (w_rdI hpa1 (gd_nI (k := 0) (plcs_pos hok.2.2) (by omega)) ?_)))
  rw [hf0]
  obtain ⟨rv, f1, f2, rfl, f3, f4⟩ := valueOf_at (nx := nx0 + 1 + 0) hC1 (show fpt rs 0 < 128 by omega)
  obtain ⟨rz, g1, g2, rfl, g3, g4⟩ := valueOf_at (nx := nx0 + 1 + 0 + 0) (x := 0) hC1 (by decide)
  refine w_call0 f1 (w_call0 g1 (w_some (w_pos (by obtain ⟨fs, z, -⟩ := hI1.cell22; exact gC_at z) ?_)))
  refine w_call (hI1.put (by omega) ⟨f2, rfl, f3, f4⟩ ⟨g2, rfl, g3, g4⟩ (by omega) (by omega) rfl (by omega) (fun y hy => by omega)) ?_
  rintro rp G2 c2' s2' ⟨v1, v2, v3, v4⟩
  have k2 : ∀ b, b < nx0 → b ≠ nu → G2 b = G1 b := fun b b1 b2 => v4 b b2 (by omega)
  have hN2 : NCtx V G2 nx0 mo po bo bd pl so nu lo ld pa ad rs Fp f := hN1.keep (fun b b1 b2 _ => k2 b b1 b2)
  obtain ⟨hC2, hM2, -, -, -, -, hpa2, -⟩ := id hN2
  refine w_xR hM2 rfl rfl (w_some (w_rdI hpa2 (gd_nI (k := 0) (plcs_pos hok.2.2) (by omega)) ?_))
  rw [hf0]
  obtain ⟨ry, y1, y2, rfl, y3, y4⟩ := valueOf_at (nx := nx0 + 1 + 0 + 0 + 0 + c2') hC2 (show fpt rs 0 < 128 by omega)
  have t1' : AL V G2 nx0 e0 [] := t1.keep (v4 nx0 (by omega) (by omega)) (v4 e0 (by omega) (by omega))
  have hI2 : IL V G2 nx0 e0 [] := ⟨[], t1', rfl, fun j h => absurd h (Nat.not_lt_zero _)⟩
  refine w_call0 y1 (w_pos hI2.gC ?_)
  refine w_call (il_add (x := fpt rs 0) hI2 (by simp) ⟨y2, rfl, y3, y4⟩ ⟨by omega, by omega⟩ (by omega) (by omega)) ?_
  rintro - G3 c3 s3 ⟨-, i2, i3, ⟨wd3, i4, i5⟩, i6⟩
  have i5' : (wd3 = e0 ∧ c3 = 0) ∨ (wd3 = nx0 + 1 + c2' ∧ c3 = 1) := i5
  have k3 : ∀ b, b < nx0 → G3 b = G2 b := fun b b1 => i6 b (by omega) (by omega) (by omega)
  have hix : ixL [fpt rs 0] = va_up (fun _ => none) (fpt rs 0) (some 0) := by
    have := ixL_app (l := []) (x := fpt rs 0) (by simp)
    rw [List.nil_append] at this
    rw [this]
    rfl
  have hS3 : NSt V G3 rs nx0 (nx0 + 1 + c2' + c3) nx0 wd3 nu (fun a => a = nu ∨ (nx0 + 1 ≤ a ∧ a < nx0 + 1 + c2')) [fpt rs 0] := by
    refine ⟨i4, ?_, by simp, fun y hy => by rw [List.mem_singleton.mp hy]; exact ⟨0, plcs_pos hok.2.2, rfl⟩, fun a ha => ?_, by omega, by omega, by omega, by omega, by omega, by omega, by omega⟩
    · rw [hix]
      exact v3.keep (fun y hy => i6 y (by omega) (by omega) (by omega)) (fun y hy => k3 y (by omega))
    · rcases ha with w | w
      · exact Or.inl w
      · exact Or.inr (by omega)
  have hR3 : SR V G3 rs nx0 (nx0 + 1 + c2' + c3) nx0 wd3 so e0 (fun a => a = nu ∨ (nx0 + 1 ≤ a ∧ a < nx0 + 1 + c2')) [] [fpt rs 0] := by
    refine ⟨?_, fun j h => absurd h (Nat.not_lt_zero _), by omega, by omega, by omega, by omega, by omega, fun y hy => by simp at hy⟩
    exact hA.keep (by rw [k3 so hso, k2 so hso (Ne.symm hns), k1 so hso]) (by rw [k3 e0 (by omega), k2 e0 (by omega) (by omega), k1 e0 (by omega)])
  refine w_mono (num_out hV hnu hso hns 64 0 V.2.2.2.2 G3 (nx0 + 1 + c2' + c3) wd3 e0 _ [fpt rs 0] [] (by omega) (by omega) (by omega) (by omega) (hN2.keep (fun b b1 _ _ => k3 b b1)) hS3 hR3 rfl) ?_
  rintro - G4 c4 s4 ⟨wd4, sd4, Fn4, rows4, z1, z2, z3, z4, z5, z6⟩
  have hl : (nbL (dlP rs) 64 0 [fpt rs 0]).length ≤ 36 := (sts_ok hok).2.2.2.1
  simp only [List.length_singleton] at z4 z5
  refine ⟨nx0, wd4, sd4, Fn4, rows4, ?_, ?_, z3, by omega, by omega, fun b b1 b2 b3 => ?_⟩
  · rw [show nx0 + (1 + (0 + (c2' + (c3 + c4)))) = nx0 + 1 + c2' + c3 + c4 by omega]; exact z1
  · rw [show nx0 + (1 + (0 + (c2' + (c3 + c4)))) = nx0 + 1 + c2' + c3 + c4 by omega]; exact z2
  · rw [z6 b b1 b2 b3, k3 b b1, k2 b b1 b2, k1 b b1]
end X

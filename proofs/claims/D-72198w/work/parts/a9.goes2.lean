/-! PURE 66: RunWatch.goesThrough, whole -/
theorem al_clr {V : HEn} {G : Gh} {nx o d : Nat} {l : List (Option Nat)} (hV : 300 ≤ V.2.2.2.2) (h : AL V G o d l) : wH (hF_J2_clear V G nx o) (fun _ G' c s => c = 0 ∧ s = 0 ∧ AL V G' o d [] ∧ ∀ b, b ≠ o → (b ≠ d ∨ b < V.1) → G' b = G b) := by
  obtain ⟨m, n, f, h1, h2, h3, h4, h5, h6, h7, h8⟩ := h
  unfold hF_J2_clear
  refine w_xI h1 rfl rfl (w_xF h1 rfl (Nat.le_of_ble_eq_true rfl) h5 rfl (w_xR (gset_eq _ _ _) rfl rfl (w_xI (gset_eq _ _ _) rfl rfl (w_xF (gset_eq _ _ _) rfl (Nat.le_of_ble_eq_true rfl) h5 rfl ?_))))
  generalize hG1 : gset (gset G o _) o _ = G1
  have k1 : ∀ b, b ≠ o → G1 b = G b := fun b hb => by rw [← hG1, gset_ne _ _ hb, gset_ne _ _ hb]
  have e1 : G1 o = some (.inr (8, [.int (m + 1), va_rf (some d), .int (nI 0)])) := by rw [← hG1, gset_eq]; rfl
  have e2 : G1 d = some (.inl (V.2.1 3, n, .inr (.inr (.inr (.inr f))))) := by rw [k1 d (Ne.symm h6)]; exact h2
  clear hG1
  rcases h8 with ⟨h8, h9⟩ | ⟨h8, h9⟩
  · refine w_mono (clear_loop (o := o) (m0 := m) V.2.2.2.2 nx 0 l.length G1 f h8 e2 h3 h7 (by omega) (by omega)) ?_
    rintro r G' c' s' ⟨q1, q2, ⟨f', q3⟩, q4⟩
    exact ⟨q1, q2, ⟨m + 1, n, f', by rw [q4 o h6]; exact e1, q3, by simp, fun i hi => by simp at hi, h5, h6, h7, Or.inl ⟨h8, h9⟩⟩, fun b b1 b2 => by rw [q4 b (by omega), k1 b b1]⟩
  · have l0 : l.length = 0 := by omega
    rw [l0]
    obtain ⟨q, hq⟩ := Nat.exists_eq_succ_of_ne_zero (show V.2.2.2.2 ≠ 0 by omega)
    rw [hq, hL_J2_clear_27]
    refine w_pos (nI_le (a := 0) (b := 0) (Nat.le_refl 0) (by decide)) (w_ret ⟨rfl, rfl, ⟨m + 1, n, f, e1, e2, by simp, fun i hi => by simp at hi, h5, h6, h7, Or.inr ⟨h8, h9⟩⟩, fun b b1 b2 => k1 b b1⟩)
section X
variable {V : HEn} {G : Gh} {nx xo d0 da dm ia ro rd tx po to lo ld ch : Nat} {ad : List Nat} {F : Nat → Prop} {k : Dk} {st : Nat × Nat × Nat} {rl : List (Option Nat)} {mcx : Option Nat}
/-- the head of goesThrough, up to its loop -/
theorem go_pre {l : List (Nat × Nat)} {Q : Unit → Gh → Nat → Nat → Prop} (hV : 1200 ≤ V.2.2.2.2) (hb : V.1 ≤ nx) (hX : G xo = some (xcell d0 da dm ia ro st tx)) (hD : G d0 = some (.inr (1, [va_rf (some po), va_rf (some to)]))) (hTM : TM V G to F l) (hF : ∀ a, F a → a < nx ∧ a ≠ xo ∧ a ≠ ro ∧ a ≠ rd) (hd0 : d0 < nx ∧ d0 ≠ xo ∧ d0 ≠ ro ∧ d0 ≠ rd ∧ d0 ≠ to) (hA : AL V G ro rd rl) (hxr : xo < nx ∧ ro < nx ∧ rd < nx ∧ xo ≠ ro ∧ xo ≠ rd) (hxo : V.1 ≤ xo) (hc0 : ∀ a, F a → V.1 ≤ a)
    (K : ∀ (G4 : Gh) (it kn c s : Nat) (N : Nat → Prop) (kv vv : Nat → Option Nat) (ps : Nat → Nat) (mc : Int32) (es : Option Nat), c ≤ 2 → s ≤ 5 → it + 1 = nx + c → nx ≤ it → (F kn ∨ (nx ≤ kn ∧ kn < it)) → TMx V G4 to N kv vv ps mc es (some kn) l → (∀ a, (a = to ∨ N a ∨ es = some a) → F a) → KIx G4 13 it to mc N ps l.length 0 → G4 xo = some (xcell d0 da dm ia ro (0, 0, 0) tx) → AL V G4 ro rd [] → G4 d0 = some (.inr (1, [va_rf (some po), va_rf (some to)])) → (∀ b, b < nx → b ≠ xo → b ≠ ro → (b ≠ rd ∨ b < V.1) → b ≠ to → G4 b = G b) → wH (hL_X0_goesThrough_40 V xo V.2.2.2.2 G4 (it + 1) (some it)) (fun r G' c' s' => Q r G' (c + c') (s + s'))) :
    wH (hF_X0_goesThrough V G nx xo) Q := by
  obtain ⟨N, kv, vv, ps, mc, es, ks, hT, hTF⟩ := hTM
  obtain ⟨x1, x2, x3, x4, x5⟩ := hxr
  obtain ⟨d1, d2, d3, d4, d5⟩ := hd0
  obtain ⟨m1, m2, m3, m4⟩ := hF to (hTF to (Or.inl rfl))
  have m5 := hc0 to (hTF to (Or.inl rfl))
  unfold hF_X0_goesThrough
  refine w_xR hX rfl rfl (w_some (w_pos (by obtain ⟨ml, nn, ff, z, -⟩ := hA; exact gC_at z) (w_call (al_clr (by omega) hA) ?_)))
  rintro - G1 c1 s1 ⟨rfl, rfl, u1, u2⟩
  refine w_xF (fs' := [va_rf (some d0), va_rf (some da), .int (nI dm), va_rf (some ia), va_rf (some ro), .int (nI 0), .int (nI st.2.1), .int (nI st.2.2), va_rf (some tx)]) (by rw [u2 xo x4 (Or.inl x5)]; exact hX) rfl (Nat.le_of_ble_eq_true rfl) hxo rfl ?_
  refine w_xF (fs' := [va_rf (some d0), va_rf (some da), .int (nI dm), va_rf (some ia), va_rf (some ro), .int (nI 0), .int (nI 0), .int (nI st.2.2), va_rf (some tx)]) (gset_eq _ _ _) rfl (Nat.le_of_ble_eq_true rfl) hxo rfl ?_
  refine w_xF (fs' := [va_rf (some d0), va_rf (some da), .int (nI dm), va_rf (some ia), va_rf (some ro), .int (nI 0), .int (nI 0), .int (nI 0), va_rf (some tx)]) (gset_eq _ _ _) rfl (Nat.le_of_ble_eq_true rfl) hxo rfl ?_
  generalize hG2 : gset (gset (gset G1 xo _) xo _) xo _ = G2
  have k2 : ∀ b, b ≠ xo → G2 b = G1 b := fun b hb' => by rw [← hG2, gset_ne _ _ hb', gset_ne _ _ hb', gset_ne _ _ hb']
  have hX2 : G2 xo = some (xcell d0 da dm ia ro (0, 0, 0) tx) := by rw [← hG2]; exact gset_eq _ _ _
  clear hG2
  have k2' : ∀ b, b ≠ xo → b ≠ ro → (b ≠ rd ∨ b < V.1) → G2 b = G b := fun b b1 b2 b3 => by rw [k2 b b1]; exact u2 b b2 b3
  have kc : ∀ b, b < V.1 → G2 b = G b := fun b b1 => k2' b (by omega) (by have : V.1 ≤ ro := by { obtain ⟨ml, nn, ff, z1, z2, z3, z4, z5, z6⟩ := hA; exact z5 }; omega) (Or.inr b1)
  have hD2 : G2 d0 = some (.inr (1, [va_rf (some po), va_rf (some to)])) := by rw [k2' d0 d2 d3 (Or.inl d4)]; exact hD
  have hT2 : TMx V G2 to N kv vv ps mc es ks l := hT.keep (fun a ha => by obtain ⟨z1, z2, z3, z4⟩ := hF a (hTF a ha); exact k2' a z2 z3 (Or.inl z4)) kc
  have hA2 : AL V G2 ro rd [] := u1.keep (k2 ro (Ne.symm x4)) (k2 rd (Ne.symm x5))
  have oldT : TOld to nx N es ks := TM.old (F := F) (fun a ha => (hF a ha).1) hTF
  refine w_xR hX2 rfl rfl (w_some (w_xR hD2 rfl rfl (w_some (w_pos (by obtain ⟨fs, z⟩ := hT2.cell; exact gC_at z) ?_))))
  refine w_call (keySet_at hT2 oldT) ?_
  rintro r G3 c3 s3 ⟨kn, rfl, y1, y2, y3⟩
  have hkn : G3 kn = some (.inr (12, [va_rf (some to)])) ∧ V.1 ≤ kn := y1.2.2.2.2.2.2 kn rfl
  have knl : c3 ≤ 1 ∧ s3 ≤ 1 ∧ kn < nx + c3 ∧ (F kn ∨ (nx ≤ kn ∧ kn < nx + c3)) := by
    rcases y2 with ⟨w1, w2, w3⟩ | ⟨w1, w2, w3⟩
    · have hf := hTF kn (Or.inr (Or.inr (Or.inr w1)))
      have := hF kn hf
      exact ⟨by omega, by omega, by omega, Or.inl hf⟩
    · exact ⟨by omega, by omega, by omega, Or.inr (by omega)⟩
  clear y2
  refine w_some (w_pos (gC_at hkn.1) ?_)
  refine w_call (keyIt_at (by omega) y1 ⟨by have := oldT.1; omega, fun a ha => by have := oldT.2.1 a ha; omega, fun e he => by have := oldT.2.2.1 e he; omega, fun e he => by cases he; omega⟩) ?_
  rintro r G4 c4 s4 ⟨rfl, rfl, rfl, v1, v2⟩
  have kk : ∀ b, b < nx → b ≠ to → G4 b = G2 b := fun b b1 b2 => by rw [v2 b (by omega)]; exact y3 b b2 (by omega)
  have := K G4 (nx + c3) kn (c3 + 1) (s3 + 4) N kv vv ps mc es (by omega) (by omega) (by omega) (by omega) knl.2.2.2 ?_ (fun a ha => hTF a (by rcases ha with w | w | w <;> simp [w])) v1 ?_ ?_ ?_ (fun b b1 b2 b3 b4 b5 => ?_)
  · refine w_mono this (fun r G' c' s' hq => ?_)
    rw [show 0 + (c3 + (1 + c')) = c3 + 1 + c' by omega, show 0 + (s3 + (4 + s')) = s3 + 4 + s' by omega]
    exact hq
  · refine y1.keep (fun a ha => v2 a ?_) (fun a ha => v2 a (by omega))
    rcases ha with w | w | w | w
    · omega
    · have := oldT.2.1 a w; omega
    · have := oldT.2.2.1 a w; omega
    · cases w; omega
  · rw [kk xo x1 (Ne.symm m2)]; exact hX2
  · exact hA2.keep (kk ro x2 (Ne.symm m3)) (kk rd x3 (Ne.symm m4))
  · rw [kk d0 d1 d5]; exact hD2
  · rw [kk b b1 b5]; exact k2' b b2 b3 b4
/-- goesThrough, by cells -/
theorem go_mid (hV : 1200 ≤ V.2.2.2.2) (hC : Cst V G) (hb : V.1 ≤ nx) (hX : G xo = some (xcell d0 da dm ia ro st tx)) (hD : G d0 = some (.inr (1, [va_rf (some po), va_rf (some to)]))) (hTM : TM V G to F k.2) (hP : G po = some (pcell lo ch k.1 mcx)) (hR : RL V G lo ld ad k.1.1) (hok : DkOk k) (hF : ∀ a, F a → a < nx ∧ a ≠ xo ∧ a ≠ ro ∧ a ≠ rd) (hd0 : d0 < nx ∧ d0 ≠ xo ∧ d0 ≠ ro ∧ d0 ≠ rd ∧ d0 ≠ to) (hpl : ∀ b, (b = po ∨ b = lo ∨ b = ld ∨ b ∈ ad) → b < nx ∧ b ≠ xo ∧ b ≠ ro ∧ (b ≠ rd ∨ b < V.1) ∧ b ≠ to) (hA : AL V G ro rd rl) (hxr : xo < nx ∧ ro < nx ∧ rd < nx ∧ xo ≠ ro ∧ xo ≠ rd) (hxo : V.1 ≤ xo) (hc0 : ∀ a, F a → V.1 ≤ a) :
    wH (hF_X0_goesThrough V G nx xo) (fun _ G' c s => c ≤ 170 ∧ s ≤ 6700 ∧ G' xo = some (xcell d0 da dm ia ro (gLast k.1 (0, 0, 0) k.2) tx) ∧ G' d0 = G d0 ∧ (∃ (kn rd' : Nat) (rws : List Nat), TM V G' to (fun a => F a ∨ a = kn) k.2 ∧ (F kn ∨ (nx ≤ kn ∧ kn < nx + c ∧ kn ≠ rd' ∧ kn ∉ rws)) ∧ AL V G' ro rd' (rws.map some) ∧ (rd' = rd ∨ (nx ≤ rd' ∧ rd' < nx + c)) ∧ (∀ a ∈ rws, nx ≤ a ∧ a < nx + c ∧ a ≠ rd') ∧ rws.length = k.2.length ∧ (∀ j (_ : j < rws.length) (_ : j < (gRows k.1 (0, 0, 0) k.2).length), G' rws[j] = some (rcell (gRows k.1 (0, 0, 0) k.2)[j]))) ∧ ∀ b, b < nx → b ≠ xo → b ≠ ro → (b ≠ rd ∨ b < V.1) → b ≠ to → G' b = G b) := by
  obtain ⟨hpn, hsrt, hll, hvals⟩ := hok
  have hro1 : V.1 ≤ ro := by
    obtain ⟨m, n, f, z1, z2, z3, z4, z5, z6⟩ := hA
    exact z5
  have hto := (hTM.fo).1
  refine go_pre (F := F) hV hb hX hD hTM hF hd0 hA hxr hxo hc0 ?_
  obtain ⟨x1, x2, x3, x4, x5⟩ := hxr
  obtain ⟨d1, d2, d3, d4, d5⟩ := hd0
  intro G4 it kn c s N kv vv ps mc es hc hs hit hit2 hkn hT4 hTF hK4 hX4 hA4 hD4 fr
  have fc : ∀ b, b < V.1 → G4 b = G b := fun b b1 => fr b (by omega) (by omega) (by omega) (Or.inr b1) (by have := hc0 to hto; omega)
  have fp : ∀ b, (b = po ∨ b = lo ∨ b = ld ∨ b ∈ ad) → G4 b = G b := fun b hb' => by obtain ⟨z1, z2, z3, z4, z5⟩ := hpl b hb'; exact fr b z1 z2 z3 z4 z5
  have zF : ∀ b, F b → b < it + 1 ∧ b ≠ xo ∧ b ≠ ro ∧ b ≠ it ∧ (b ≠ rd ∨ b < V.1) := fun b hb' => by
    obtain ⟨z1, z2, z3, z4⟩ := hF b hb'
    exact ⟨by omega, z2, z3, by omega, Or.inl z4⟩
  have zK : kn < it + 1 ∧ kn ≠ xo ∧ kn ≠ ro ∧ kn ≠ it ∧ (kn ≠ rd ∨ kn < V.1) := by
    rcases hkn with w | w
    · exact zF kn w
    · exact ⟨by omega, by omega, by omega, by omega, Or.inl (by omega)⟩
  have zP : ∀ b, (b = po ∨ b = lo ∨ b = ld ∨ b ∈ ad) → b < it + 1 ∧ b ≠ xo ∧ b ≠ ro ∧ b ≠ it ∧ (b ≠ rd ∨ b < V.1) := fun b hb' => by
    obtain ⟨z1, z2, z3, z4, z5⟩ := hpl b hb'
    exact ⟨by omega, z2, z3, by omega, z4⟩
  have zD : d0 < it + 1 ∧ d0 ≠ xo ∧ d0 ≠ ro ∧ d0 ≠ it ∧ (d0 ≠ rd ∨ d0 < V.1) := ⟨by omega, d2, d3, by omega, Or.inl d4⟩
  refine w_mono (go_loop (G0 := G4) (nx0 := it + 1) (xo := xo) (d0 := d0) (da := da) (dm := dm) (ia := ia) (ro := ro) (rd0 := rd) (tx := tx) (po := po) (to := to) (lo := lo) (ld := ld) (ch := ch) (it := it) (ad := ad) (p := k.1) (mcx := mcx) (N := N) (kv := kv) (vv := vv) (ps := ps) (mc := mc) (es := es) (ks := some kn) (l := k.2) (Z := fun b => b < it + 1 ∧ b ≠ xo ∧ b ≠ ro ∧ b ≠ it ∧ (b ≠ rd ∨ b < V.1)) hV (hC.keep fc) hT4 hD4 ((fp po (by simp)).trans hP) (hR.keep (fp lo (by simp)) (fp ld (by simp)) (fun a ha => fp a (by simp [ha]))) hpn (fun y hy => (hvals y hy).2) hll (by omega) ⟨hxo, by omega⟩ ⟨hro1, by omega⟩ ⟨by omega, by omega⟩ ⟨x4, by omega, by omega, x5, by omega⟩ (by omega) (fun b hb' => hb') ?_ k.2 0 V.2.2.2.2 G4 (it + 1) rd [] (0, 0, 0) (by omega) rfl (by omega) (Nat.le_refl _) (fun _ _ => rfl) hK4 hX4 (st0_ok hpn) hA4 rfl ⟨Or.inl rfl, by omega⟩ (fun a ha => by simp at ha)) ?_
  · intro b hb'
    rcases hb' with w | w | w | w | w | w | w | w | w | w
    · rw [w]; exact zD
    · rw [w]; exact zF _ hto
    · exact zP b (by simp [w])
    · exact zP b (by simp [w])
    · exact zP b (by simp [w])
    · exact zP b (by simp [w])
    · exact zF b (hTF b (by simp [w]))
    · exact zF b (hTF b (by simp [w]))
    · cases w; exact zK
    · exact ⟨by omega, by omega, by omega, by omega, Or.inr w⟩
  rintro - G5 c5 s5 ⟨v1, v2, v3, ⟨rd', nw, v4, v5, v6, v7, v8⟩, v9⟩
  have fr5 : ∀ b, b < nx → b ≠ xo → b ≠ ro → (b ≠ rd ∨ b < V.1) → b ≠ to → G5 b = G b := fun b b1 b2 b3 b4 b5 => by rw [v9 b (by omega) b2 b3 (by omega) b4]; exact fr b b1 b2 b3 b4 b5
  have kz : ∀ b, (b < it + 1 ∧ b ≠ xo ∧ b ≠ ro ∧ b ≠ it ∧ (b ≠ rd ∨ b < V.1)) → G5 b = G4 b := fun b hb' => v9 b hb'.1 hb'.2.1 hb'.2.2.1 hb'.2.2.2.1 hb'.2.2.2.2
  refine ⟨by omega, by omega, v3, by rw [fr5 d0 d1 d2 d3 (Or.inl d4) d5], ⟨kn, rd', nw, ⟨N, kv, vv, ps, mc, es, some kn, hT4.keep (fun a ha => kz a ?_) (fun a ha => kz a ⟨by omega, by omega, by omega, by omega, Or.inr ha⟩), fun a ha => ?_⟩, ?_, by simpa using v4, ?_, fun a ha => ?_, v6, v8⟩, fr5⟩
  · rcases ha with w | w | w | w
    · rw [w]; exact zF _ hto
    · exact zF a (hTF a (by simp [w]))
    · exact zF a (hTF a (by simp [w]))
    · cases w; exact zK
  · rcases ha with w | w | w | w
    · rw [w]; exact Or.inl hto
    · exact Or.inl (hTF a (by simp [w]))
    · exact Or.inl (hTF a (by simp [w]))
    · cases w; exact Or.inr rfl
  · rcases hkn with w | w
    · exact Or.inl w
    · refine Or.inr ⟨w.1, by omega, ?_, fun z => ?_⟩
      · rcases v5.1 with z | z
        · rw [z]; omega
        · omega
      · have := (v7 kn z).1; omega
  · rcases v5.1 with z | z
    · exact Or.inl z
    · exact Or.inr ⟨by omega, by omega⟩
  · have := v7 a ha
    exact ⟨by omega, by omega, this.2.2⟩
end X

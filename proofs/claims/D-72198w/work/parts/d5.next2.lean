/-! PURE 92: Reader.next, whole -/
section S
variable {V : HEn} {G : Gh} {o d n nx : Nat} {l : List Nat} {st : Prop}
theorem str_sub2 {p m d0 : Nat} (h : Str V G o d l st) (hp : p + m ≤ l.length) (ho : o < nx) (hd : d < nx) (hb : V.1 ≤ nx) (he : Str V G (V.2.2.2.1 6) d0 [] True) (hs : V.2.2.2.1 6 < nx ∧ d0 < nx) : wH (hF_J7_substring V G nx o (nI p) (nI (p + m))) (fun r G' c s => ∃ o' d', r = some o' ∧ c ≤ 2 ∧ s ≤ 4 + l.length ∧ o' < nx + c ∧ d' < nx + c ∧ (Str V G' o' d' ((l.drop p).take m) False ∧ ((o' = o ∧ d' = d) ∨ (o' = V.2.2.2.1 6 ∧ d' = d0 ∧ Str V G' o' d' ((l.drop p).take m) True) ∨ (nx ≤ o' ∧ nx ≤ d'))) ∧ ∀ b, b < nx → G' b = G b) := by
  have h0 := h
  have hl := h.len
  obtain ⟨f, x, z, h1, h2, h3, h4, h5, h6, h7⟩ := h
  have main : wH (hB_J7_substring_22 V o G nx (nI p) (nI (p + m))) (fun r G' c s => ∃ o' d', r = some o' ∧ c ≤ 2 ∧ s ≤ 4 + l.length ∧ o' < nx + c ∧ d' < nx + c ∧ (Str V G' o' d' ((l.drop p).take m) False ∧ ((o' = o ∧ d' = d) ∨ (o' = V.2.2.2.1 6 ∧ d' = d0 ∧ Str V G' o' d' ((l.drop p).take m) True) ∨ (nx ≤ o' ∧ nx ≤ d'))) ∧ ∀ b, b < nx → G' b = G b) := by
    unfold hB_J7_substring_22 hF_J12_newString
    refine w_pos h0.gC (w_call0 (str_latin h0) (w_neg (by decide) (w_xR h1 rfl rfl ?_)))
    apply w_cB
    rw [nI_sub (by omega), Nat.add_sub_cancel_left, nI_add]
    refine w_if (fun c => w_ret (w_ret ?_)) (fun c => w_tick ?_)
    · have hm : m = 0 := (nI_eq (b := 0) (by omega) (by omega)).mp c
      subst hm
      exact ⟨_, d0, rfl, by omega, by omega, by omega, by omega, ⟨by rw [List.take_zero]; exact he.any, Or.inr (Or.inl ⟨rfl, rfl, by rw [List.take_zero]; exact he⟩)⟩, fun _ _ => rfl⟩
    · refine w_call (range_at (V := V) (d := d) (nx := nx + 0 + 1) (f := f) (n := l.length) (p := p) (m := m) ?_ (sub_fits h3) hl hp (by omega) (by omega)) ?_
      · rw [gset_ne _ _ (by omega)]; exact h2
      · rintro r G' c s ⟨rfl, rfl, hsm, ⟨g, q1, q2⟩, q3⟩
        obtain rfl := hsm.symm
        unfold hF_J7_init_3
        apply w_cB
        refine w_xF (c := 25) (fs := [.null, .int 0, .int 0, .int 0]) (by rw [q3 _ (by omega)]; exact gset_eq _ _ _) rfl (Nat.le_of_ble_eq_true rfl) (by omega) rfl (w_pos (by decide) (w_xF (gset_eq _ _ _) rfl (Nat.le_of_ble_eq_true rfl) (by omega) rfl (w_ret (w_ret (w_ret ⟨nx, nx + 1, rfl, by omega, by omega, by omega, by omega, ⟨⟨g, 0, 0, gset_eq _ _ _, ?_, fun i hi => ?_, fun c hc => h4 c (List.mem_of_mem_drop (List.mem_of_mem_take hc)), by omega, by rw [List.length_take]; omega, Or.inl rfl, fun z => absurd rfl z, fun z => z.elim⟩, Or.inr (Or.inr ⟨by omega, by omega⟩)⟩, fun b b1 => ?_⟩)))))
        · rw [gset_ne _ _ (by omega), gset_ne _ _ (by omega), q1, List.length_take, List.length_drop, show min m (l.length - p) = m by omega]
        · rw [List.length_take] at hi
          rw [q2 i (by omega), h3 (p + i) (by omega)]
          simp
        · rw [gset_ne _ _ (by omega), gset_ne _ _ (by omega), q3 b (by omega), gset_ne _ _ (by omega)]
  unfold hF_J7_substring
  refine w_pos h0.gC (w_call0 (str_length h0) ?_)
  unfold hF_J7_checkBoundsBeginEnd
  refine w_call0 (r := ()) (G := G) ?_ ?_
  · unfold hF_J13_checkFromToIndex
    rw [if_neg (nI_pos (by omega)), if_neg (nI_nlt (by omega) (by omega)), if_pos ((nI_leq (by omega) (by omega)).mpr hp)]
    rfl
  · refine w_if (fun c => w_if (fun c1 => w_ret ?_) (fun _ => main)) (fun _ => main)
    have hp0 : p = 0 := (nI_eq (b := 0) (by omega) (by omega)).mp c
    have hm := (nI_eq (by omega) (by omega)).mp c1
    subst hp0
    refine ⟨o, d, rfl, by omega, by omega, by omega, by omega, ⟨?_, Or.inl ⟨rfl, rfl⟩⟩, fun _ _ => rfl⟩
    rw [List.drop_zero, List.take_of_length_le (by omega)]
    exact h0.any
end S
/-- what next leaves -/
def NxQ (V : HEn) (G : Gh) (nx ro so sd po it on : Nat) (l : List Nat) (t : Tk) : Unit ⊕ Nat → Gh → Nat → Nat → Prop := fun r G' c s => c ≤ 3 ∧ s ≤ 140 ∧ (∀ b, b < nx → b ≠ ro → b ≠ so → G' b = G b) ∧ ((t.2.1 ≠ 6 ∧ r = .inl () ∧ RdW V G' (nx + c) ro so sd po t.2.2.2 t.1 (tkN t) it on l (tkW t)) ∨ (t.2.1 = 6 ∧ ∃ q, r = .inr q ∧ nx ≤ q ∧ q < nx + c ∧ FtA G' q t.1))
section X
variable {V : HEn} {G : Gh} {nx ro so sd po at_ bg wo it on : Nat} {nu : Int32} {l : List Nat}
/-- a Reader stands there -/
def RdB (V : HEn) (G : Gh) (nx ro so sd po at_ bg wo : Nat) (nu : Int32) (it on : Nat) (l : List Nat) : Prop := G ro = some (rdc so po at_ bg wo nu it on) ∧ Str V G so sd l False ∧ StC V G ∧ V.1 ≤ ro ∧ V.1 ≤ so ∧ ro < nx ∧ so < nx ∧ sd < nx ∧ ro < so ∧ ro < sd ∧ l.length ≤ 120
theorem next_222 {e : Nat} {s2 : Int32} (hV : 1200 ≤ V.2.2.2.2) (h : RdB V G nx ro so sd po at_ bg wo nu it on l) (hs : nI at_ + s2 = nI e) (he : bg ≤ e ∧ e ≤ l.length) :
    wH (hB_X4_next_222 V ro G nx (some ro) (nI at_) s2) (fun r G' c s => c ≤ 3 ∧ s ≤ 140 ∧ (∀ b, b < nx → b ≠ ro → b ≠ so → G' b = G b) ∧ ((okW ((l.drop bg).take (e - bg)) = true ∧ r = .inl () ∧ RdW V G' (nx + c) ro so sd po e bg nu it on l ((l.drop bg).take (e - bg))) ∨ (okW ((l.drop bg).take (e - bg)) = false ∧ ∃ q, r = .inr q ∧ nx ≤ q ∧ q < nx + c ∧ FtA G' q bg))) := by
  obtain ⟨h1, h2, h3, h4, h5, h6, h7, h8, h9, h10, h11⟩ := h
  obtain ⟨d6, s1, s2', s3⟩ := h3 6 (by decide)
  have sone : so ≠ ro := by omega
  have sdne : sd ≠ ro := by omega
  unfold hB_X4_next_222
  rw [hs]
  refine w_some (w_xF (fs' := [va_rf (some so), va_rf (some po), .int (nI e), .int (nI bg), va_rf (some wo), .int nu, .int (nI it), va_rf (some on)]) h1 rfl (Nat.le_of_ble_eq_true rfl) h4 rfl ?_)
  generalize hG1 : gset G ro (.inr (3, [va_rf (some so), va_rf (some po), .int (nI e), .int (nI bg), va_rf (some wo), .int nu, .int (nI it), va_rf (some on)])) = G1
  have k1 : ∀ b, b ≠ ro → G1 b = G b := fun b hb => by rw [← hG1]; exact gset_ne _ _ hb
  have hR1 : G1 ro = some (rdc so po e bg wo nu it on) := by rw [← hG1]; exact gset_eq _ _ _
  clear hG1
  have hS1 : Str V G1 so sd l False := h2.keep (k1 so sone) (k1 sd sdne)
  have hC1 : StC V G1 := h3.keep (fun a ha => k1 a (by omega))
  obtain ⟨d6', t1, t2, t3⟩ := hC1 6 (by decide)
  refine w_xR hR1 rfl rfl (w_xI hR1 rfl rfl (w_xI hR1 rfl rfl (w_some (w_pos hS1.gC ?_))))
  have ee : nI e = nI (bg + (e - bg)) := by rw [show bg + (e - bg) = e by omega]
  rw [ee]
  refine w_call (str_sub2 hS1 (by omega) h7 h8 (by omega) t3 ⟨by omega, by omega⟩) ?_
  rintro r G2 c2 s2'' ⟨o', d', rfl, u1, u2, u3, u4, ⟨u5, u7⟩, u6⟩
  rw [← ee] at *
  have hR2 : G2 ro = some (rdc so po e bg wo nu it on) := by rw [u6 ro h6]; exact hR1
  refine w_xF (fs' := [va_rf (some so), va_rf (some po), .int (nI e), .int (nI bg), va_rf (some o'), .int nu, .int (nI it), va_rf (some on)]) hR2 rfl (Nat.le_of_ble_eq_true rfl) h4 rfl ?_
  generalize hG3 : gset G2 ro (.inr (3, [va_rf (some so), va_rf (some po), .int (nI e), .int (nI bg), va_rf (some o'), .int nu, .int (nI it), va_rf (some on)])) = G3
  have k3 : ∀ b, b ≠ ro → G3 b = G2 b := fun b hb => by rw [← hG3]; exact gset_ne _ _ hb
  have hR3 : G3 ro = some (rdc so po e bg o' nu it on) := by rw [← hG3]; exact gset_eq _ _ _
  clear hG3
  generalize hw : (l.drop bg).take (e - bg) = w at *
  have k3' : ∀ b, b < nx → b ≠ ro → G3 b = G b := fun b b1 b2 => by rw [k3 b b2, u6 b b1, k1 b b2]
  have one : o' ≠ ro := by
    rcases u7 with z | z | z
    · omega
    · omega
    · omega
  have dne : d' ≠ ro := by
    rcases u7 with z | z | z
    · omega
    · omega
    · omega
  have hW3 : Str V G3 o' d' w False := u5.keep (k3 o' one) (k3 d' dne)
  have hS3 : Str V G3 so sd l False := h2.keep (k3' so h7 sone) (k3' sd h8 sdne)
  have hC3 : StC V G3 := h3.keep (fun a ha => k3' a (by omega) (by omega))
  have loc : (o' = so ∨ o' < V.1 ∨ ro < o') ∧ (d' = sd ∨ d' < V.1 ∨ ro < d') := by
    rcases u7 with z | z | z
    · exact ⟨Or.inl z.1, Or.inl z.2⟩
    · exact ⟨Or.inr (Or.inl (by omega)), Or.inr (Or.inl (by omega))⟩
    · exact ⟨Or.inr (Or.inr (by omega)), Or.inr (Or.inr (by omega))⟩
  refine w_xR hR3 rfl rfl (w_some (w_pos hW3.gC ?_))
  -- behind the hash
  have fin : ∀ (G4 : Gh), G4 ro = G3 ro → Str V G4 o' d' w True → Str V G4 so sd l False → (∀ b, b ≠ o' → G4 b = G3 b) → (o' < V.1 → G4 o' = G3 o') → ∀ nx4, nx4 = nx + c2 → wH (swE V ro G4 nx4 o' (hsh w)) (fun r G' c s => c2 + (0 + c) ≤ 3 ∧ s2'' + (0 + s) ≤ 140 ∧ (∀ b, b < nx → b ≠ ro → b ≠ so → G' b = G b) ∧ ((okW w = true ∧ r = .inl () ∧ RdW V G' (nx + (c2 + (0 + c))) ro so sd po e bg nu it on l w) ∨ (okW w = false ∧ ∃ q, r = .inr q ∧ nx ≤ q ∧ q < nx + (c2 + (0 + c)) ∧ FtA G' q bg))) := fun G4 y1 y2 y3 y4 y5 nx4 hn4 => by
    have hC4 : StC V G4 := hC3.keep (fun a ha => by
      by_cases c : a = o'
      · rw [c]; exact y5 (by omega)
      · exact y4 a c)
    refine w_mono (swd_at (nx := nx4) (ro := ro) (bg := bg) hV hC4 (y1.trans hR3) (by omega) (by omega) y2) ?_
    rintro r G5 c5 s5 ⟨v1, v2, v3, v4⟩
    refine ⟨by omega, by omega, fun b b1 b2 b3 => ?_, ?_⟩
    · rw [v3 b (by omega)]
      by_cases c : b = o'
      · rcases u7 with z | z | z
        · omega
        · rw [c, y5 (by omega), k3' o' (by omega) one]
        · omega
      · rw [y4 b c]; exact k3' b b1 b2
    · rcases v4 with ⟨z1, z2, z3⟩ | ⟨z1, q, z2, z3, z4, z5⟩
      · refine Or.inl ⟨z1, z2, o', d', ?_, y3.keep (v3 _ (by omega)) (v3 _ (by omega)), y2.keep (v3 _ (by omega)) (v3 _ (by omega)), by omega, by omega, loc.1, loc.2⟩
        rw [v3 ro (by omega), y1]; exact hR3
      · exact Or.inr ⟨z1, q, z2, by omega, by omega, z5⟩
  by_cases cs : o' < V.1
  · have hT : Str V G3 o' d' w True := by
      rcases u7 with z | z | z
      · omega
      · exact z.2.2.keep (k3 o' one) (k3 d' dne)
      · omega
    exact w_callE (str_hashS hT) (fin G3 rfl hT hS3 (fun _ _ => rfl) (fun _ => rfl) _ rfl)
  · refine w_call (str_hash hV hW3 (by omega)) ?_
    rintro y G4 c4 s4 ⟨rfl, rfl, rfl, y1, y2⟩
    have hS4 : Str V G4 so sd l False := by
      by_cases c : o' = so
      · obtain ⟨e1, e2⟩ : d' = sd ∧ True := by
          rcases u7 with z | z | z
          · exact ⟨z.2, trivial⟩
          · omega
          · omega
        have : w = l := Str.inj (by rw [c] at hW3; exact hW3) hS3
        rw [c, e1, this] at y1
        exact y1.any
      · have dso : sd ≠ o' := by
          obtain ⟨f1, _, _, _, q, _⟩ := hS3
          obtain ⟨f2, _, _, q2, _⟩ := hW3
          exact Ne.symm (hd_na q2 q)
        exact hS3.keep (y2 so (Ne.symm c)) (y2 sd dso)
    exact fin G4 (y2 ro (Ne.symm one)) y1 hS4 y2 (fun z => absurd z cs) _ rfl
end X

/-! PURE 15: headMap(k).size() -/
section T
variable {V : HEn} {G : Gh} {o n nx : Nat} {N : Nat → Prop} {lf rt pa : Nat → Option Nat} {co : Nat → Int32} {kv vv : Nat → Option Nat}
variable {x0 x1 root es ks x8 : Option Nat} {sz mc : Int32} {ps lo hi : Nat → Nat} {l : List (Nat × Nat)}
theorem compare_at {a b x y : Nat} (ho : G o = some (tobj x0 x1 root sz mc es ks x8)) (ha : G a = some (.inr (26, [.int (nI x)]))) (hb : G b = some (.inr (26, [.int (nI y)]))) (hx : x < 128) (hy : y < 128) : hF_J4_compare V G nx o (some a) (some b) = some (if x < y then (-1 : Int32) else if x = y then 0 else 1, G, 0, 0) := by
  unfold hF_J4_compare
  rw [xR_at (r := none) ho rfl rfl]
  show (if gok G (some a) [26, 25] = true then (if gC G a 26 = true then cB (hF_J23_compareTo V G nx a (some b)) _ else none) else none) = _
  rw [if_pos (gok_at ha (by simp)), if_pos (gC_at ha), compareTo_at ha hb hx hy]
  rfl
theorem ceil_loop {ik x p v0 : Nat} (h : TNd V G o N lf rt pa co kv vv) (ho : G o = some (tobj x0 x1 root (nI l.length) mc es ks x8)) (hs : Shp N l.length root lf rt pa ps lo hi) (hh : Hold V G N kv vv ps l) (hsr : Srt l) (hik : G ik = some (.inr (26, [.int (nI x)]))) (hx : x < 128) (hp : LowB l x p) (hpr : l[p]? = some (x, v0)) :
    ∀ (m nx a : Nat), N a → lo a ≤ p → p < hi a → hi a - lo a ≤ m → ∃ b, hL_J4_getCeilingEntry_5 V o m G nx (some ik) (some a) = some (some b, G, 0, 0) ∧ N b ∧ ps b = p := by
  intro m
  induction m with
  | zero => intro nx a ha h1 h2 h5; have := hs.1 a ha; omega
  | succ m ih =>
    intro nx a ha h1 h2 h5
    obtain ⟨k, w, hk, ⟨ka, e1, e2, e3⟩, -, k128, -⟩ := hh a ha
    obtain ⟨s1, s2, s3, s4, s5, s6, s7, s8, s9, s10, s11⟩ := hs
    have b1 := s1 a ha
    have b2 := hp.2 (ps a) _ hk
    have rd : xR G a fl_TreeMap_Entry_key = some (some ka) := by rw [← e1]; exact xR_at (h a ha).1 rfl rfl
    rw [hL_J4_getCeilingEntry_5, if_neg (by simp)]
    show ∃ b, (xR G a fl_TreeMap_Entry_key).bind _ = _ ∧ _
    rw [rd]
    show ∃ b, (if gC G o 10 = true then cB (hF_J4_compare V G nx o (some ik) (some ka)) _ else none) = _ ∧ _
    rw [if_pos (gC_at ho), compare_at ho hik e3 hx k128]
    rcases Nat.lt_trichotomy x k with c | c | c
    · rw [if_pos c]
      have c' : ¬ ps a < p := fun z => by have := b2.mp z; simp at this; omega
      have c'' : p ≠ ps a := by
        intro z; subst z
        rw [hpr] at hk; cases hk; omega
      show ∃ b, (tick 0 0 ((xR G a fl_TreeMap_Entry_left).bind _)) = _ ∧ _
      rw [xR_at (r := lf a) (h a ha).1 rfl rfl]
      cases el : lf a with
      | none => have := s6 a ha el; omega
      | some b =>
        obtain ⟨t1, t2, t3, t4⟩ := s7 a b ha el
        obtain ⟨r, q1, q2⟩ := ih (nx + 0) b t1 (by omega) (by omega) (by omega)
        refine ⟨r, ?_, q2⟩
        show tick 0 0 (hL_J4_getCeilingEntry_5 V o m G (nx + 0) (some ik) (some b)) = _
        rw [q1]; rfl
    · subst c
      have hpa : ps a = p := low_at hsr hp hk
      rw [if_neg (Nat.lt_irrefl _), if_pos rfl]
      exact ⟨a, rfl, ha, hpa⟩
    · have c1 : ¬ x < k := by omega
      have c2 : ¬ x = k := by omega
      rw [if_neg c1, if_neg c2]
      have c' : ps a < p := b2.mpr (by simp; omega)
      show ∃ b, (tick 0 0 ((xR G a fl_TreeMap_Entry_right).bind _)) = _ ∧ _
      rw [xR_at (r := rt a) (h a ha).1 rfl rfl]
      cases el : rt a with
      | none => have := s8 a ha el; omega
      | some b =>
        obtain ⟨t1, t2, t3, t4⟩ := s9 a b ha el
        obtain ⟨r, q1, q2⟩ := ih (nx + 0) b t1 (by omega) (by omega) (by omega)
        refine ⟨r, ?_, q2⟩
        show tick 0 0 (hL_J4_getCeilingEntry_5 V o m G (nx + 0) (some ik) (some b)) = _
        rw [q1]; rfl
abbrev smobj (o ik : Nat) (ev : Option Nat) : va_E := .inr (16, [va_rf (some o), va_rf none, va_rf (some ik), .int 1, .int 0, .int 1, .int 0, .null, va_rf ev, .null, .null, .null])
theorem headMap_at {ik x : Nat} (h : TMx V G o N kv vv ps mc es ks l) (hold : TOld o nx N es ks) (hik : IsInt V G (some ik) x) (hx : x < 128) : wH (hF_J4_headMap V G nx o (some ik)) (fun r G' c s => r = some nx ∧ c = 1 ∧ s = 12 ∧ G' nx = some (smobj o ik none) ∧ ∀ b, b ≠ nx → G' b = G b) := by
  obtain ⟨⟨x0, x1, x8, root, lf, rt, pa, co, lo, hi', h1, h2, h3⟩, h4, h5, h6, h7, h8, h9⟩ := h
  obtain ⟨o1, o2, o3, o4⟩ := hold
  obtain ⟨ik', z0, ikb, iks⟩ := hik
  cases z0
  have ho' : ∀ e, gset G nx e o = some (tobj x0 x1 root (nI l.length) mc es ks x8) := fun e => by rw [gset_ne _ _ (by omega)]; exact h2
  have hi' : ∀ e, gset G nx e ik = some (.inr (26, [.int (nI x)])) := fun e => by rw [gset_ne _ _ (by omega)]; exact iks
  unfold hF_J4_headMap hF_J4_headMap_2 hF_J45_init hF_J44_init hB_J44_init_33 hB_J44_init_44 hB_J44_init_58 hF_J3_init
  refine w_pos (gC_at h2) ?_
  apply w_cB
  refine w_tick ?_
  apply w_cB
  apply w_cB
  refine w_call0 (r := ()) (G := gset G nx (.inr (16, [.null, .null, .null, .int 0, .int 0, .int 0, .int 0, .null, .null, .null, .null, .null]))) rfl (w_neg (by decide) (w_neg (by decide) (w_pos rfl (w_some (w_pos (gC_at (ho' _)) (w_call0 (compare_at (ho' _) (hi' _) (hi' _) hx hx) ?_))))))
  have hb : V.1 ≤ nx := by omega
  refine w_xF (gset_eq _ _ _) rfl (Nat.le_of_ble_eq_true rfl) hb rfl ?_
  refine w_pos (Or.inr rfl) ?_
  refine w_xF (gset_eq _ _ _) rfl (Nat.le_of_ble_eq_true rfl) hb rfl ?_
  refine w_xF (gset_eq _ _ _) rfl (Nat.le_of_ble_eq_true rfl) hb rfl ?_
  refine w_pos (Or.inr rfl) ?_
  refine w_xF (gset_eq _ _ _) rfl (Nat.le_of_ble_eq_true rfl) hb rfl ?_
  refine w_pos (Or.inl rfl) ?_
  refine w_xF (gset_eq _ _ _) rfl (Nat.le_of_ble_eq_true rfl) hb rfl ?_
  refine w_xF (gset_eq _ _ _) rfl (Nat.le_of_ble_eq_true rfl) hb rfl ?_
  refine w_pos (Or.inl rfl) ?_
  refine w_xF (gset_eq _ _ _) rfl (Nat.le_of_ble_eq_true rfl) hb rfl ?_
  refine w_ret (w_ret (w_ret (w_ret ?_)))
  exact ⟨rfl, rfl, rfl, gset_eq _ _ _, fun b hb => by simp only [gset_ne _ _ hb]⟩
/-- the sub map's iterator at place i; its fence is at p -/
def SIx (G : Gh) (it sm : Nat) (mc : Int32) (N : Nat → Prop) (ps : Nat → Nat) (kv : Nat → Option Nat) (i p : Nat) : Prop := ∃ nxt lr fk, G it = some (.inr (18, [va_rf lr, va_rf nxt, va_rf fk, .int mc, va_rf (some sm)])) ∧ (∃ b, N b ∧ ps b = p ∧ fk = kv b) ∧ ((∃ a, nxt = some a ∧ N a ∧ ps a = i) ∨ (nxt = none ∧ i = p))
theorem size_loop {it sm ev ik x p : Nat} (hV : 200 ≤ V.2.2.2.2) (hpl : p < l.length) (hb1 : V.1 ≤ it) (hb2 : V.1 ≤ ev) (hne : it ≠ ev) (hio : ∀ a, (a = o ∨ N a ∨ es = some a ∨ ks = some a) → a ≠ it ∧ a ≠ ev) (hsm : sm ≠ it ∧ sm ≠ ev) :
    ∀ (m nx i : Nat) (G : Gh), TMx V G o N kv vv ps mc es ks l → G sm = some (smobj o ik (some ev)) → SIx G it sm mc N ps kv i p → (∃ sv, G ev = some (.inr (17, [.int (nI i), .int sv, va_rf (some sm), va_rf (some sm)]))) → i ≤ p → p - i + 1 ≤ m →
    wH (hL_J18_size_80 V ev m G nx (some it)) (fun r G' c s => r = nI p ∧ c = 0 ∧ s = 0 ∧ ∀ b, b ≠ it → b ≠ ev → G' b = G b) := by
  intro m
  induction m with
  | zero => intro nx i G h1 h2 h3 h4 h5 h6; omega
  | succ m ih =>
    intro nx i G h1 h2 h3 h4 h5 h6
    have h1' := h1
    obtain ⟨⟨x0, x1, x8, root, lf, rt, pa, co, lo, hi', g1, g2, g3⟩, g4, g5, g6, g7, g8, g9⟩ := h1'
    obtain ⟨nxt, lr, fk, e1, ⟨b, bN, bp, rfl⟩, e3⟩ := h3
    obtain ⟨sv, h4⟩ := h4
    rw [hL_J18_size_80]
    refine w_some (w_pos (gC_at e1) ?_)
    have stop : i = p → (nxt = none ∨ nxt = some b) → wH (cB (hF_J20_hasNext V G nx it) fun y6 G7 c8 => if y6 = 0 then (hB_J18_size_109 V ev G7 (nx + c8)) else ((xI G7 ev fl_TreeMap_NavigableSubMap_EntrySetView_size).bind fun v14 => (xF V.1 G7 ev fl_TreeMap_NavigableSubMap_EntrySetView_size (.int (v14 + 1))).bind fun G16 => if gC G16 it 18 = true then cB (hF_J21_next V G16 (nx + c8) it) fun r19 G20 c21 => (hL_J18_size_80 V ev m) G20 ((nx + c8) + c21) (some it) else none)) (fun r G' c s => r = nI p ∧ c = 0 ∧ s = 0 ∧ ∀ b, b ≠ it → b ≠ ev → G' b = G b) := by
      intro ip hn
      subst ip
      refine w_call0 (r := (0 : Int32)) (G := G) ?_ (w_pos rfl ?_)
      · have hw : wH (hF_J20_hasNext V G nx it) (fun r G' c s => r = 0 ∧ G' = G ∧ c = 0 ∧ s = 0) := by
          unfold hF_J20_hasNext hB_J20_hasNext_25 hB_J20_hasNext_26
          refine w_xR e1 rfl rfl ?_
          rcases hn with rfl | rfl
          · exact w_pos rfl (w_pos rfl (w_ret ⟨rfl, rfl, rfl, rfl⟩))
          · refine w_neg (by simp) (w_xR e1 rfl rfl (w_some (w_tK g1 bN (w_xR e1 rfl rfl (w_pos rfl (w_pos rfl (w_ret ⟨rfl, rfl, rfl, rfl⟩)))))))
        obtain ⟨r, G', c, s, e, rfl, rfl, rfl, rfl⟩ := hw
        exact e
      · unfold hB_J18_size_109
        refine w_xI h4 rfl rfl (w_ret ⟨rfl, rfl, rfl, fun _ _ _ => rfl⟩)
    rcases e3 with ⟨a, rfl, aN, ap⟩ | ⟨rfl, ip⟩
    · rcases Nat.lt_or_ge i p with c | c
      · -- one more
        obtain ⟨ka, va, q1, ⟨ca, q2, q3, q4⟩, -⟩ := g4 a aN
        obtain ⟨kb, vb, p1, ⟨cb, p2, p3, p4⟩, -⟩ := g4 b bN
        have hkk : ¬ kv a = kv b := by
          intro z
          rw [q2, p2] at z
          cases z
          rw [q4] at p4
          have z2 := g5 (ps a) (ps b) _ _ (by omega) q1 p1
          simp at z2
          have lk1 := (g4 a aN)
          have lk2 := (g4 b bN)
          obtain ⟨k1, v1, y1, -, -, y4, -⟩ := lk1
          obtain ⟨k2, v2, w1, -, -, w4, -⟩ := lk2
          rw [q1] at y1; cases y1
          rw [p1] at w1; cases w1
          have z3 : nI ka = nI kb := by
            have := Option.some.inj p4
            have := (Prod.mk.inj (Sum.inr.inj this)).2
            have := (List.cons.inj this).1
            exact Value.int.inj this
          have := (nI_eq (by omega) (by omega)).mp z3
          omega
        refine w_call0 (r := (1 : Int32)) (G := G) ?_ (w_neg (by decide) ?_)
        · have hw : wH (hF_J20_hasNext V G nx it) (fun r G' c s => r = 1 ∧ G' = G ∧ c = 0 ∧ s = 0) := by
            unfold hF_J20_hasNext hB_J20_hasNext_25 hB_J20_hasNext_26
            refine w_xR e1 rfl rfl (w_neg (by simp) (w_xR e1 rfl rfl (w_some (w_tK g1 aN (w_xR e1 rfl rfl (w_neg hkk (w_pos rfl (w_ret ⟨rfl, rfl, rfl, rfl⟩))))))))
          obtain ⟨r, G', c, s, e, rfl, rfl, rfl, rfl⟩ := hw
          exact e
        · refine w_xI h4 rfl rfl (w_xF h4 rfl (Nat.le_of_ble_eq_true rfl) hb2 rfl ?_)
          have hit : gset G ev (.inr (17, [.int (nI i + 1), .int sv, va_rf (some sm), va_rf (some sm)])) it = some (.inr (18, [va_rf lr, va_rf (some a), va_rf (kv b), .int mc, va_rf (some sm)])) := by rw [gset_ne _ _ hne]; exact e1
          refine w_pos (gC_at hit) ?_
          have sapp : ∀ a, (a = o ∨ N a ∨ es = some a ∨ ks = some a) → ∀ e, gset G ev e a = G a := fun a ha e => gset_ne _ _ (hio a ha).2
          have tk : TNd V (gset G ev (.inr (17, [.int (nI i + 1), .int sv, va_rf (some sm), va_rf (some sm)]))) o N lf rt pa co kv vv := TNd.keep (G' := gset G ev _) g1 (fun a ha => sapp a (Or.inr (Or.inl ha)) _)
          obtain ⟨r, t1, t2⟩ := succ_at (nx := nx + 0) tk g3 (by omega) aN
          refine w_call0' (P := fun r' G' => SIx G' it sm mc N ps kv (i + 1) p ∧ ∀ b, b ≠ it → G' b = gset G ev (.inr (17, [.int (nI i + 1), .int sv, va_rf (some sm), va_rf (some sm)])) b) ?_ ?_
          · unfold hF_J21_next hF_J21_next_2 hF_J20_nextEntry
            refine w_pos (gC_at hit) ?_
            apply w_cB
            refine w_pos (gC_at hit) ?_
            apply w_cB
            refine w_xR hit rfl rfl (w_neg (by simp) (w_some (w_tK tk aN (w_xR hit rfl rfl (w_neg hkk (w_xR hit rfl rfl (w_some ?_)))))))
            have hsm' : gset G ev (.inr (17, [.int (nI i + 1), .int sv, va_rf (some sm), va_rf (some sm)])) sm = some (smobj o ik (some ev)) := by rw [gset_ne _ _ hsm.2]; exact h2
            have ho' : gset G ev (.inr (17, [.int (nI i + 1), .int sv, va_rf (some sm), va_rf (some sm)])) o = some (tobj x0 x1 root (nI l.length) mc es ks x8) := by rw [sapp o (Or.inl rfl)]; exact g2
            refine w_xR hsm' rfl rfl (w_some (w_xI ho' rfl rfl (w_xI hit rfl rfl (w_pos rfl (w_call0 t1 (w_xF hit rfl (Nat.le_of_ble_eq_true rfl) hb1 rfl (w_xF (gset_eq _ _ _) rfl (Nat.le_of_ble_eq_true rfl) hb1 rfl (w_ret (w_ret (w_ret ?_))))))))))
            refine ⟨rfl, rfl, ⟨r, some a, kv b, gset_eq _ _ _, ⟨b, bN, bp, rfl⟩, ?_⟩, fun b hb => by rw [gset_ne _ _ hb, gset_ne _ _ hb]⟩
            rcases t2 with ⟨b', w1, w2, w3⟩ | ⟨w1, w2⟩
            · exact Or.inl ⟨b', w1, w2, by omega⟩
            · exfalso; omega
          · rintro r' G' ⟨u1, u2⟩
            refine w_mono (ih _ (i + 1) G' (h1.keep (fun a ha => ?_) (fun a ha => ?_)) ?_ u1 ?_ (by omega) (by omega)) ?_
            · rw [u2 a (hio a ha).1]; exact gset_ne _ _ (hio a ha).2
            · rw [u2 a (by omega)]; exact gset_ne _ _ (by omega)
            · rw [u2 sm hsm.1, gset_ne _ _ hsm.2]; exact h2
            · refine ⟨sv, ?_⟩
              rw [u2 ev (Ne.symm hne), gset_eq, nI_1]
            · rintro r'' G'' c'' s'' ⟨y1, y2, y3, y4⟩
              exact ⟨y1, y2, y3, fun b b1 b2 => by rw [y4 b b1 b2, u2 b b1, gset_ne _ _ b2]⟩
      · have ip : i = p := by omega
        have : a = b := g3.2.1 a b aN bN (by omega)
        subst this
        exact stop ip (Or.inr rfl)
    · exact stop ip (Or.inl rfl)
theorem headSize_at {sm ik x p v0 : Nat} (hV : 200 ≤ V.2.2.2.2) (h : TMx V G o N kv vv ps mc es ks l) (hold : TOld o nx N es ks) (hik : IsInt V G (some ik) x) (hx : x < 128) (hp : LowB l x p) (hpr : l[p]? = some (x, v0)) (hsm : G sm = some (smobj o ik none)) (hsb : V.1 ≤ sm) (hsx : sm < nx) (hsa : ∀ a, (a = o ∨ N a ∨ es = some a ∨ ks = some a) → a ≠ sm) :
    wH (hF_J44_size V G nx sm) (fun r G' c s => r = nI p ∧ c = 2 ∧ s = 9 ∧ ∀ b, b ≠ sm → b < nx → G' b = G b) := by
  obtain ⟨ik', z0, ikb, iks⟩ := hik
  cases z0
  have hold' := hold
  obtain ⟨o1, o2, o3, o4⟩ := hold'
  have olt : ∀ a, (a = o ∨ N a ∨ es = some a ∨ ks = some a) → a < nx := by
    intro a ha
    rcases ha with w | w | w | w
    · omega
    · exact o2 a w
    · exact o3 a w
    · exact o4 a w
  have hbx : V.1 ≤ nx := by omega
  unfold hF_J44_size hB_J44_size_24 hB_J44_size_33
  refine w_xI hsm rfl rfl (w_neg (by decide) (w_xI hsm rfl rfl (w_pos rfl (w_pos (gC_at hsm) ?_))))
  unfold hF_J45_entrySet hB_J45_entrySet_26
  apply w_cB
  refine w_xR (r := none) hsm rfl rfl (w_pos rfl (w_tick ?_))
  unfold hF_J19_init hF_J18_init hF_J17_init hF_J0_init
  apply w_cB
  refine w_xF (gset_eq _ _ _) rfl (Nat.le_of_ble_eq_true rfl) hbx rfl ?_
  apply w_cB
  refine w_xF (gset_eq _ _ _) rfl (Nat.le_of_ble_eq_true rfl) hbx rfl ?_
  generalize hG1 : gset (gset (gset G nx _) nx _) nx _ = G1
  have k1 : ∀ b, b ≠ nx → G1 b = G b := fun b hb => by rw [← hG1, gset_ne _ _ hb, gset_ne _ _ hb, gset_ne _ _ hb]
  have e1 : G1 nx = some (.inr (17, [.int 0, .int 0, va_rf (some sm), va_rf (some sm)])) := by rw [← hG1, gset_eq]; rfl
  clear hG1
  refine w_call0 (r := ()) (G := G1) rfl (w_xF e1 rfl (Nat.le_of_ble_eq_true rfl) hbx rfl (w_ret (w_ret ?_)))
  have hs2 : ∀ e, gset G1 nx e sm = some (smobj o ik none) := fun e => by rw [gset_ne _ _ (by omega), k1 sm (by omega)]; exact hsm
  refine w_xF (hs2 _) rfl (Nat.le_of_ble_eq_true rfl) hsb rfl (w_ret (w_some ?_))
  generalize hG2 : gset (gset G1 nx _) sm _ = G2
  have k2 : ∀ b, b ≠ nx → b ≠ sm → G2 b = G b := fun b hb hb' => by rw [← hG2, gset_ne _ _ hb', gset_ne _ _ hb, k1 b hb]
  have e2 : G2 sm = some (smobj o ik (some nx)) := by rw [← hG2, gset_eq]; rfl
  have e3 : G2 nx = some (.inr (17, [.int (-1), .int 0, va_rf (some sm), va_rf (some sm)])) := by rw [← hG2, gset_ne _ _ (by omega), gset_eq]; rfl
  clear hG2
  have tm2 : TMx V G2 o N kv vv ps mc es ks l := h.keep (fun a ha => k2 a (by have := olt a ha; omega) (hsa a ha)) (fun a ha => k2 a (by omega) (by omega))
  apply w_cB
  unfold hD_J44_size_28
  refine w_neg (gC_no e3 (by decide)) (w_neg (gC_no e3 (by decide)) (w_pos (gC_at e3) ?_))
  unfold hF_J18_size hB_J18_size_31 hB_J18_size_56
  refine w_xR e3 rfl rfl (w_some (w_xI e2 rfl rfl (w_neg (by decide) (w_xR e3 rfl rfl (w_some (w_xI e2 rfl rfl (w_pos rfl (w_xI e3 rfl rfl (w_pos rfl (w_xR e3 rfl rfl (w_some (w_xR e2 rfl rfl (w_some ?_)))))))))))))
  have tm2' := tm2
  obtain ⟨⟨x0, x1, x8, root, lf, rt, pa, co, lo, hi', g1, g2, g3⟩, g4, g5, g6, g7, g8, g9⟩ := tm2'
  refine w_xI g2 rfl rfl (w_xF e3 rfl (Nat.le_of_ble_eq_true rfl) hbx rfl (w_xF (gset_eq _ _ _) rfl (Nat.le_of_ble_eq_true rfl) hbx rfl ?_))
  generalize hG3 : gset (gset G2 nx _) nx _ = G3
  have k3 : ∀ b, b ≠ nx → G3 b = G2 b := fun b hb => by rw [← hG3, gset_ne _ _ hb, gset_ne _ _ hb]
  have e4 : G3 nx = some (.inr (17, [.int 0, .int mc, va_rf (some sm), va_rf (some sm)])) := by rw [← hG3, gset_eq]; rfl
  clear hG3
  refine w_pos (gC_at e4) ?_
  -- the iterator
  have kG : ∀ b, b ≠ nx → b ≠ nx + 1 → ∀ e, gset G3 (nx + 1) e b = G2 b := fun b hb hb' e => by rw [gset_ne _ _ hb', k3 b hb]
  have hit : wH (hF_J19_iterator V G3 (nx + 1 + 0) nx) (fun r G' c s => r = some (nx + 1) ∧ c = 1 ∧ s = 5 ∧ SIx G' (nx + 1) sm mc N ps kv 0 p ∧ ∀ b, b ≠ nx + 1 → G' b = G3 b) := by
    unfold hF_J19_iterator
    show wH (tick 1 5 _) _
    refine w_tick ?_
    have e5 : ∀ e, gset G3 (nx + 1) e nx = some (.inr (17, [.int 0, .int mc, va_rf (some sm), va_rf (some sm)])) := fun e => by rw [gset_ne _ _ (by omega)]; exact e4
    have e6 : ∀ e, gset G3 (nx + 1) e sm = some (smobj o ik (some nx)) := fun e => by rw [kG sm (by omega) (by omega)]; exact e2
    have e7 : ∀ e, gset G3 (nx + 1) e o = some (tobj x0 x1 root (nI l.length) mc es ks x8) := fun e => by rw [kG o (by omega) (by omega)]; exact g2
    have e8 : ∀ e, gset G3 (nx + 1) e ik = some (.inr (26, [.int (nI x)])) := fun e => by rw [kG ik (by omega) (by omega), k2 ik (by omega) (by omega)]; exact iks
    refine w_xR (e5 _) rfl rfl (w_xR (e5 _) rfl rfl (w_some (w_pos (gC_at (e6 _)) ?_)))
    generalize hG4 : gset G3 (nx + 1 + 0) (.inr (18, [.null, .null, .null, .int 0, .null])) = G4
    have hG4' : gset G3 (nx + 1) (.inr (18, [.null, .null, .null, .int 0, .null])) = G4 := hG4
    have f5 := e5 (.inr (18, [.null, .null, .null, .int 0, .null])); rw [hG4'] at f5
    have f6 := e6 (.inr (18, [.null, .null, .null, .int 0, .null])); rw [hG4'] at f6
    have f7 := e7 (.inr (18, [.null, .null, .null, .int 0, .null])); rw [hG4'] at f7
    have f8 := e8 (.inr (18, [.null, .null, .null, .int 0, .null])); rw [hG4'] at f8
    have f9 : G4 (nx + 1) = some (.inr (18, [.null, .null, .null, .int 0, .null])) := by rw [← hG4']; exact gset_eq _ _ _
    have k4 : ∀ b, b ≠ nx + 1 → G4 b = G3 b := fun b hb => by rw [← hG4']; exact gset_ne _ _ hb
    clear hG4 hG4' e5 e6 e7 e8
    have kN : ∀ a, N a → G4 a = G2 a := fun a ha => by have := olt a (Or.inr (Or.inl ha)); rw [k4 a (by omega), k3 a (by omega)]
    have tn : TNd V G4 o N lf rt pa co kv vv := g1.keep kN
    have kc : ∀ a, a < V.1 → G4 a = G2 a := fun a ha => by rw [k4 a (by omega), k3 a (by omega)]
    have hh : Hold V G4 N kv vv ps l := by
      intro a ha
      obtain ⟨k, v, q1, q2, q3, q4, q5⟩ := g4 a ha
      exact ⟨k, v, q1, q2.keep kc, q3.keep kc, q4, q5⟩
    have hlen := (List.getElem?_eq_some_iff.mp hpr).1
    obtain ⟨r, q1, q2⟩ := first_at (nx := nx + 1 + 0 + 1) tn f7 g3 (by omega)
    obtain ⟨b, rfl, bN, bp⟩ : ∃ b, r = some b ∧ N b ∧ ps b = 0 := by
      rcases q2 with q2 | ⟨-, q2⟩
      · exact q2
      · omega
    obtain ⟨kb, vb, y1, ⟨cb, y2, y3, y4⟩, -, y5, -⟩ := hh b bN
    have hlow : wH (hF_J44_absLowest V G4 (nx + 1 + 0 + 1) sm) (fun r G' c s => G' = G4 ∧ c = 0 ∧ s = 0 ∧ ((∃ a, r = some a ∧ N a ∧ ps a = 0) ∨ (r = none ∧ 0 = p))) := by
      unfold hF_J44_absLowest
      refine w_xI f6 rfl rfl (w_neg (by decide) (w_xR f6 rfl rfl (w_some (w_pos (gC_at f7) (w_call0 q1 ?_)))))
      unfold hB_J44_absLowest_49
      refine w_neg (by simp) (w_some (w_tK tn bN (w_pos (gC_at f6) ?_)))
      rw [y2]
      have ht : hF_J44_tooHigh V G4 (nx + 1 + 0 + 1 + 0) sm (some cb) = some (if p = 0 then (1 : Int32) else 0, G4, 0, 0) := by
        have hw : wH (hF_J44_tooHigh V G4 (nx + 1 + 0 + 1 + 0) sm (some cb)) (fun r G' c s => r = (if p = 0 then (1 : Int32) else 0) ∧ G' = G4 ∧ c = 0 ∧ s = 0) := by
          unfold hF_J44_tooHigh hB_J44_tooHigh_35 hB_J44_tooHigh_37
          refine w_xI f6 rfl rfl (w_pos rfl (w_xR f6 rfl rfl (w_xR f6 rfl rfl (w_some (w_pos (gC_at f7) (w_call0 (compare_at f7 y4 f8 y5 hx) ?_))))))
          have lb := hp.2 0 _ (by rw [← bp]; exact y1)
          by_cases c : p = 0
          · subst c
            have : kb = x := by
              rw [bp] at y1
              rw [hpr] at y1; cases y1; rfl
            subst this
            rw [if_neg (Nat.lt_irrefl _), if_pos rfl]
            refine w_neg (by decide) (w_pos rfl (w_xI f6 rfl rfl (w_pos rfl (w_ret ?_))))
            simp
          · have : kb < x := by have := lb.mp (by omega); simpa using this
            rw [if_pos this]
            refine w_neg (by decide) (w_neg (by decide) (w_ret ?_))
            simp [c]
        obtain ⟨r, G', c, s, e, rfl, rfl, rfl, rfl⟩ := hw
        exact e
      refine w_call0 ht ?_
      unfold hB_J44_absLowest_65 hB_J44_absLowest_70
      by_cases c : p = 0
      · rw [if_pos c]
        exact w_neg (by decide) (w_ret ⟨rfl, rfl, rfl, Or.inr ⟨rfl, c.symm⟩⟩)
      · rw [if_neg c]
        exact w_pos rfl (w_ret ⟨rfl, rfl, rfl, Or.inl ⟨b, rfl, bN, bp⟩⟩)
    refine w_call hlow ?_
    rintro r G5 c s ⟨hg, rfl, rfl, hr⟩
    rw [hg]
    refine w_xR f5 rfl rfl (w_some (w_pos (gC_at f6) ?_))
    obtain ⟨rt0, hrt⟩ : ∃ r, root = some r := by
      cases e : root with
      | none => have := g3.2.2.2.2.1 e; omega
      | some r => exact ⟨r, rfl⟩
    obtain ⟨z1, z2, z3, z4⟩ := g3.2.2.2.1 rt0 hrt
    obtain ⟨fe, w1, w2, w3⟩ := ceil_loop tn f7 g3 hh g5 f8 hx hp hpr V.2.2.2.2 (nx + 1 + 0 + 1 + 0) rt0 z1 (by omega) (by omega) (by omega)
    have hf : hF_J44_absHighFence V G4 (nx + 1 + 0 + 1 + 0) sm = some (some fe, G4, 0, 0) := by
      have hw : wH (hF_J44_absHighFence V G4 (nx + 1 + 0 + 1 + 0) sm) (fun r G' c s => r = some fe ∧ G' = G4 ∧ c = 0 ∧ s = 0) := by
        unfold hF_J44_absHighFence hB_J44_absHighFence_43 hF_J4_getCeilingEntry
        refine w_xI f6 rfl rfl (w_pos rfl (w_xI f6 rfl rfl (w_pos rfl (w_xR f6 rfl rfl (w_xR f6 rfl rfl (w_some (w_pos (gC_at f7) ?_)))))))
        apply w_cB
        refine w_xR f7 rfl rfl ?_
        rw [hrt]
        exact ⟨_, _, _, _, w1, w_ret ⟨rfl, rfl, rfl, rfl⟩⟩
      obtain ⟨r, G', c, s, e, rfl, rfl, rfl, rfl⟩ := hw
      exact e
    refine w_call0 hf ?_
    unfold hF_J21_init hF_J20_init
    apply w_cB
    apply w_cB
    have hbx1 : V.1 ≤ nx + 1 := by omega
    refine w_xF f9 rfl (Nat.le_of_ble_eq_true rfl) hbx1 rfl (w_some ?_)
    have n6 : ∀ e, gset G4 (nx + 1) e sm = some (smobj o ik (some nx)) := fun e => by rw [gset_ne _ _ (by omega)]; exact f6
    have n7 : ∀ e, gset G4 (nx + 1) e o = some (tobj x0 x1 root (nI l.length) mc es ks x8) := fun e => by rw [gset_ne _ _ (by omega)]; exact f7
    refine w_xR (n6 _) rfl rfl (w_some (w_xI (n7 _) rfl rfl (w_xF (gset_eq _ _ _) rfl (Nat.le_of_ble_eq_true rfl) hbx1 rfl (w_xF (gset_eq _ _ _) rfl (Nat.le_of_ble_eq_true rfl) hbx1 rfl (w_xF (gset_eq _ _ _) rfl (Nat.le_of_ble_eq_true rfl) hbx1 rfl (w_neg (by simp) (w_some ?_)))))))
    have fne : fe ≠ nx + 1 := by have := o2 fe w2; omega
    refine w_xR (r := kv fe) (c := 11) (fs := [va_rf (kv fe), va_rf (vv fe), va_rf (lf fe), va_rf (rt fe), va_rf (pa fe), .int (co fe)]) (k := 0) ?_ rfl rfl (w_xF (gset_eq _ _ _) rfl (Nat.le_of_ble_eq_true rfl) hbx1 rfl (w_ret (w_ret (w_ret ?_))))
    · rw [gset_ne _ _ fne, gset_ne _ _ fne, gset_ne _ _ fne, gset_ne _ _ fne]; exact (tn fe w2).1
    · refine ⟨rfl, rfl, rfl, ⟨r, none, kv fe, gset_eq _ _ _, ⟨fe, w2, w3, rfl⟩, hr⟩, fun b hb => ?_⟩
      simp only [gset_ne _ _ hb]
      exact k4 b hb
  refine w_call hit ?_
  rintro r G5 c s ⟨rfl, rfl, rfl, u1, u2⟩
  have tm5 : TMx V G5 o N kv vv ps mc es ks l := tm2.keep (fun a ha => by have := olt a ha; rw [u2 a (by omega), k3 a (by omega)]) (fun a ha => by rw [u2 a (by omega), k3 a (by omega)])
  refine w_mono (size_loop (ev := nx) (it := nx + 1) (sm := sm) (ik := ik) (x := x) hV (List.getElem?_eq_some_iff.mp hpr).1 (by omega) hbx (by omega) (fun a ha => by have := olt a ha; omega) (by omega) _ _ 0 G5 tm5 ?_ u1 ⟨mc, ?_⟩ (by omega) ?_) ?_
  · rw [u2 sm (by omega), k3 sm (by omega)]; exact e2
  · rw [u2 nx (by omega)]; exact e4
  · have := (List.getElem?_eq_some_iff.mp hpr).1; omega
  · rintro r G' c s ⟨y1, y2, y3, y4⟩
    subst y2; subst y3
    refine w_ret ⟨y1, rfl, rfl, fun b b1 b2 => ?_⟩
    rw [y4 b (by omega) (by omega), u2 b (by omega), k3 b (by omega), k2 b (by omega) b1]
end T

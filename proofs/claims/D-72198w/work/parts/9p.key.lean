/-! PURE 46: Machine.parts: the key of a place -/
theorem app_ret {V : HEn} {G G' : Gh} {nx o c s : Nat} {x : Int32} {r : Option Nat} (h : hF_J6_append V G nx o x = some (r, G', c, s)) : r = some o := by
  unfold hF_J6_append at h
  by_cases c0 : gC G o 24 = true
  · rw [if_pos c0] at h
    obtain ⟨r1, G1, c1, s1, c2, s2, -, h2, -⟩ := oc h
    exact (o4 h2).1.symm
  · rw [if_neg c0] at h; cases h
theorem sb_charR {V : HEn} {G : Gh} {o d n nx c : Nat} {l : List Nat} (h : SBc V G o d n l) (hn : n ≤ 400) (hc : c < 256) (ho : o < nx) (hd : d < nx) : wH (hF_J6_append V G nx o (nI c)) (fun r G' c' s => r = some o ∧ growQ V G o d n nx (l.length + 1) (l ++ [c]) G' c' s) := by
  obtain ⟨r, G', c', s, e, q⟩ := sb_char (c := c) h hn hc ho hd
  exact ⟨r, G', c', s, e, app_ret e, q⟩
/-- what is behind the first number of a key -/
def tailR (f : Nat → Option Nat) (ss : List Nat) : List Nat := ss.flatMap (fun s => 32 :: dgt (f s))
section X
variable {V : HEn} {G0 : Gh} {nx0 mo po bo bd pl so nu lo ld k pa : Nat} {Ls ad : List Nat} {rs : List Ru} {F : Nat → Prop} {f : Nat → Int32} {pt : Nat → Nat}
theorem key_loop {sb : Nat} {l1 l2 : Option Nat} {k18 : Gh → Nat → Option Nat → Option Nat → Int32 → HO Int32} (hV : 1200 ≤ V.2.2.2.2) (hC : Cst V G0) (hD : Dgt V G0) (hM : G0 mo = some (mcell po bo pl (some pa) so nu)) (h : MPl V G0 po bo bd pl lo ld ad rs F Ls) (hL : MLow nx0 po bo bd pl lo ld ad F) (hmo : mo < nx0) (hpl : pa < nx0) (hpa : G0 pa = some (.inl (V.2.1 0, Ls.length, .inl f))) (hf : ∀ i, i < Ls.length → f i = nI (pt i) ∧ pt i < 100) (hb : V.1 ≤ nx0) (hk : k < Ls.length) (hcl : ∀ s, s < 5 → pM rs Ls[k] s = 0 → pB rs Ls[k] s ∈ Ls) (hsb : nx0 ≤ sb) :
    ∀ (j s m : Nat) (G : Gh) (nx d n : Nat) (l : List Nat) (Q : Int32 → Gh → Nat → Nat → Prop), s + j = 5 → j + 1 ≤ m → nx0 ≤ nx → sb < nx → d < nx → nx0 ≤ d → SBc V G sb d n l → (n = 16 ∨ n = 34) → l.length ≤ 2 + 3 * s → (∀ b, b < nx0 → G b = G0 b) →
    (∀ (m' : Nat) (G' : Gh) (c1 s1 d' n' : Nat), SBc V G' sb d' n' (l ++ tailR (fun s => (ldP rs Ls k s).map pt) (List.range' s j)) → n' ≤ 34 → d' < nx + c1 → c1 ≤ 2 * j + (34 - n) / 18 → s1 ≤ 8 * j + 34 * ((34 - n) / 18) → (∀ b, b < nx → b ≠ sb → b ≠ d → G' b = G b) → wH (hL_X8_parts_51 V mo k18 (m' + 1) G' (nx + c1) l1 l2 (nI k) (some sb) (nI 5)) (fun r G2 c s2 => Q r G2 (c1 + c) (s1 + s2))) →
    wH (hL_X8_parts_51 V mo k18 m G nx l1 l2 (nI k) (some sb) (nI s)) Q := by
  intro j
  induction j with
  | zero =>
    intro s m G nx d n l Q hj hm hnx hsx hdx hd0 hS hn hl hlow K
    obtain ⟨m, rfl⟩ := Nat.exists_eq_succ_of_ne_zero (show m ≠ 0 by omega)
    have : s = 5 := by omega
    subst this
    have := K m G 0 0 d n (by simpa [tailR] using hS) (by omega) (by omega) (by omega) (by omega) (fun _ _ _ _ => rfl)
    simpa using this
  | succ j ih =>
    intro s m G nx d n l Q hj hm hnx hsx hdx hd0 hS hn hl hlow K
    obtain ⟨m, rfl⟩ := Nat.exists_eq_succ_of_ne_zero (show m ≠ 0 by omega)
    have hM1 : G mo = some (mcell po bo pl (some pa) so nu) := (hlow mo hmo).trans hM
    rw [hL_X8_parts_51]
    refine w_neg (fun z => by have := (nI_leq (a := 5) (b := s) (by omega) (by omega)).mp z; omega) (w_pos (gC_at hM1) ?_)
    refine w_call (leads_at hV (hC.keep (fun a ha => hlow a (by omega))) hM1 (h.low hL hb hlow) (hL.mono hnx) (by omega) (by omega) hk (by omega) (hcl s (by omega))) ?_
    rintro q G1 c1 s1 ⟨rfl, w1, w2, w3, w4⟩
    have hS1 : SBc V G1 sb d n l := hS.keep (w4 _ hsx) (w4 _ hdx)
    refine w_some (w_pos (by obtain ⟨ml, ff, z, -⟩ := hS1; exact gC_at z) ?_)
    refine w_call (sb_charR (c := 32) hS1 (by omega) (by decide) (by omega) (by omega)) ?_
    rintro r G2 c2 s2 ⟨rfl, ⟨d2, n2, v1, v2, v3⟩, v4⟩
    have hlow2 : ∀ b, b < nx0 → G2 b = G0 b := fun b hb' => by rw [v4 b (by omega) (by omega) (by omega), w4 b (by omega)]; exact hlow b hb'
    have hM2 : G2 mo = some (mcell po bo pl (some pa) so nu) := (hlow2 mo hmo).trans hM
    -- the number is told
    have num : ∀ r : Option Nat, r = (ldP rs Ls k s).map pt → (∀ x, r = some x → x < 100) → wH (hB_X8_parts_92 V mo k18 (hL_X8_parts_51 V mo k18 m) G2 ((nx + c1) + c2) (some sb) (tell r) l1 l2 (nI k) (some sb) (nI s)) (fun r' G' c' s' => Q r' G' (c1 + (c2 + c')) (s1 + (s2 + s'))) := by
      intro r hr hr2
      unfold hB_X8_parts_92
      have hll : (l ++ [32]).length ≤ 3 + 3 * s := by simp; omega
      have hn2 : n2 = 16 ∨ n2 = 34 := by
        rcases v3 with z | z
        · omega
        · rcases hn with y | y
          · omega
          · exfalso; omega
      refine w_some (w_pos (by obtain ⟨ml, ff, z, -⟩ := v1; exact gC_at z) ?_)
      have hd2 : d2 < nx + c1 + c2 ∧ nx0 ≤ d2 := by rcases v3 with z | z <;> omega
      refine w_call (sb_int (V := V) (by omega) (hD.keep (fun a ha => hlow2 a (by omega))) v1 (by omega) hr2 (by omega) hd2.1) ?_
      rintro - G3 c3 s3 ⟨⟨d3, n3, u1, u2, u3⟩, u4⟩
      have hdg := dgt_len (r := r)
      have hlen3 : (l ++ [32]).length + (dgt r).length ≤ 2 + 3 * (s + 1) := by simp; omega
      have hn3 : n3 = 16 ∨ n3 = 34 := by
        rcases u3 with z | z
        · omega
        · rcases hn2 with y | y
          · omega
          · exfalso; omega
      rw [nI_1]
      have hlow3 : ∀ b, b < nx0 → G3 b = G0 b := fun b hb' => by rw [u4 b (by omega) (by omega) (by omega)]; exact hlow2 b hb'
      have hcost : c2 + c3 + (34 - n3) / 18 ≤ (34 - n) / 18 ∧ s2 + s3 + 34 * ((34 - n3) / 18) ≤ 34 * ((34 - n) / 18) := by
        rcases v3 with z | z <;> rcases u3 with y | y <;> rcases hn with x | x <;> rcases hn2 with x2 | x2 <;> rcases hn3 with x3 | x3 <;> omega
      refine ih (s + 1) m G3 (nx + c1 + c2 + c3) d3 n3 ((l ++ [32]) ++ dgt r) _ (by omega) (by omega) (by omega) (by omega) (by rcases u3 with z | z <;> omega) (by rcases u3 with z | z <;> omega) u1 hn3 (by rw [List.length_append]; exact hlen3) hlow3 ?_
      intro m' G' c4 s4 d4 n4 y1 y2 y3 y4 y5 y6
      have := K m' G' (c1 + c2 + c3 + c4) (s1 + s2 + s3 + s4) d4 n4 ?_ y2 (by omega) ?_ ?_ (fun b b1 b2 b3 => ?_)
      · rw [show nx + (c1 + c2 + c3 + c4) = nx + c1 + c2 + c3 + c4 by omega] at this
        refine w_mono this (fun r' G2' c' s' hq => ?_)
        rw [show c1 + (c2 + (c3 + (c4 + c'))) = c1 + c2 + c3 + c4 + c' by omega, show s1 + (s2 + (s3 + (s4 + s'))) = s1 + s2 + s3 + s4 + s' by omega]
        exact hq
      · have e : tailR (fun s => (ldP rs Ls k s).map pt) (List.range' s (j + 1)) = 32 :: dgt r ++ tailR (fun s => (ldP rs Ls k s).map pt) (List.range' (s + 1) j) := by
          rw [List.range'_succ, hr]; rfl
        rw [e]
        simpa [List.append_assoc] using y1
      · omega
      · omega
      · have b4 : b ≠ d2 := by rcases v3 with z | z <;> omega
        have b5 : b ≠ d3 := by rcases u3 with z | z <;> omega
        rw [y6 b (by omega) b2 b5, u4 b b2 b4 (by omega), v4 b b2 b3 (by omega), w4 b b1]
    cases e : ldP rs Ls k s with
    | none => exact w_pos rfl (num none (by rw [e]; rfl) (fun x hx => by cases hx))
    | some x =>
      have hx := w3 x e
      obtain ⟨f1, f2⟩ := hf x hx
      refine w_neg ?_ (w_xR hM2 rfl rfl (w_some (w_rdI ((hlow2 pa hpl).trans hpa) (gd_nI hx (by have := h.2.2.2.2; omega)) ?_)))
      · intro z
        have := congrArg Int32.toInt z
        rw [show tell (some x) = nI x from rfl, nI_toInt (by have := h.2.2.2.2; omega)] at this
        have e5 : (-5 : Int32).toInt = -5 := by decide
        rw [e5] at this
        omega
      · rw [f1]
        exact num (some (pt x)) (by rw [e]; rfl) (fun y hy => by cases hy; exact f2)
end X

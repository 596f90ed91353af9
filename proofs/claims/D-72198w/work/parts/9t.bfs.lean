/-! PURE 50: the machine's places: all signs of one place -/
def stP (rs : List Ru) (p : Nat) (l : List Nat) (s : Nat) : List Nat := if pM rs p s = 0 then addN l (pB rs p s) else l
def stF (rs : List Ru) (p : Nat) (l : List Nat) (ss : List Nat) : List Nat := ss.foldl (stP rs p) l
theorem addN_pre (l : List Nat) (x : Nat) : ∃ t, addN l x = l ++ t := by
  unfold addN
  split
  · exact ⟨[], by simp⟩
  · exact ⟨[x], rfl⟩
theorem addN_nd {l : List Nat} {x : Nat} (h : l.Nodup) : (addN l x).Nodup := by
  unfold addN
  split
  · exact h
  · rename_i c
    rw [List.nodup_append]
    refine ⟨h, by simp, fun a ha b hb e => ?_⟩
    simp at hb
    exact c (hb ▸ e ▸ ha)
theorem addN_mem {l : List Nat} {x : Nat} : x ∈ addN l x := by
  unfold addN
  split
  · assumption
  · simp
theorem nd_lt {l : List Nat} {x : Nat} (h : l.Nodup) (h64 : ∀ y ∈ l, y < 64) (hx : x < 64) (hn : x ∉ l) : l.length < 64 := by
  have h2 : (l ++ [x]).Nodup := by
    have := addN_nd (x := x) h
    unfold addN at this
    rwa [if_neg hn] at this
  have := nodup_sub h2 (m := List.range 64) (fun a ha => by
    rw [List.mem_range]
    rcases List.mem_append.mp ha with w | w
    · exact h64 a w
    · simp at w; omega)
  simp at this
  omega
theorem stP_pre (rs : List Ru) (p : Nat) (l : List Nat) (s : Nat) : ∃ t, stP rs p l s = l ++ t := by
  unfold stP
  split
  · exact addN_pre _ _
  · exact ⟨[], by simp⟩
theorem pB64 {rs : List Ru} (h : bks rs ≤ 6) (p s : Nat) : pB rs p s < 64 := by
  have h1 := pB_lt rs p s
  have h2 : 2 ^ bks rs ≤ 2 ^ 6 := Nat.pow_le_pow_right (by decide) h
  omega
section X
variable {V : HEn} {mo po bo pl so nu lo ld : Nat} {ad : List Nat} {rs : List Ru} {pt : Option Nat}
theorem sign_loop {k : Nat} {k60 : Gh → Nat → Option Nat → Int32 → HO Unit} (hV : 1200 ≤ V.2.2.2.2) : ∀ (j s m : Nat) (G : Gh) (nx bd : Nat) (F : Nat → Prop) (Ls : List Nat) (p : Nat) (Q : Unit → Gh → Nat → Nat → Prop), s + j = 5 → j + 1 ≤ m → Cst V G → G mo = some (mcell po bo pl pt so nu) → MPl V G po bo bd pl lo ld ad rs F Ls → MLow nx po bo bd pl lo ld ad F → MDis V mo po bo bd lo ld ad F → mo < nx → V.1 ≤ nx → Ls.Nodup → Ls[k]? = some p →
    (∀ (G' : Gh) (c1 s1 bd' : Nat) (F' : Nat → Prop), MPl V G' po bo bd' pl lo ld ad rs F' (stF rs p Ls (List.range' s j)) → MLow (nx + c1) po bo bd' pl lo ld ad F' → MDis V mo po bo bd' lo ld ad F' → (stF rs p Ls (List.range' s j)).Nodup → (bd' = bd ∨ nx ≤ bd') → (∀ a, F' a → F a ∨ nx ≤ a) → c1 + 4 * Ls.length ≤ 2 * j + 4 * (stF rs p Ls (List.range' s j)).length → s1 + 300 * Ls.length ≤ 8 * j + 300 * (stF rs p Ls (List.range' s j)).length → (∀ b, b < nx → b ≠ bo → (b ≠ bd ∨ b < V.1) → ¬ F b → G' b = G b) → wH (k60 G' (nx + c1) (some po) (nI k + 1)) (fun r G2 c s2 => Q r G2 (c1 + c) (s1 + s2))) →
    wH (hL_X8_init_75 V mo k60 m G nx (some po) (nI k) (nI s)) Q := by
  intro j
  induction j with
  | zero =>
    intro s m G nx bd F Ls p Q hj hm hC hM h hL hD hmo hb hnd hp K
    obtain ⟨m, rfl⟩ := Nat.exists_eq_succ_of_ne_zero (show m ≠ 0 by omega)
    have : s = 5 := by omega
    subst this
    rw [hL_X8_init_75]
    refine w_pos (Int32.le_refl _) ?_
    have := K G 0 0 bd F h (hL.mono (by omega)) hD hnd (Or.inl rfl) (fun a ha => Or.inl ha) (by show 0 + 4 * Ls.length ≤ 2 * 0 + 4 * Ls.length; omega) (by show 0 + 300 * Ls.length ≤ 8 * 0 + 300 * Ls.length; omega) (fun _ _ _ _ _ => rfl)
    simpa using this
  | succ j ih =>
    intro s m G nx bd F Ls p Q hj hm hC hM h hL hD hmo hb hnd hp K
    obtain ⟨m, rfl⟩ := Nat.exists_eq_succ_of_ne_zero (show m ≠ 0 by omega)
    have h0 := h
    have hL0 := hL
    have hD0 := hD
    obtain ⟨⟨⟨x1, x2, x3, x4, q0⟩, q1⟩, q2, q3, q4, q5⟩ := h
    obtain ⟨l1, l2, l3, l4, l5, l6, l7, l8⟩ := hL
    obtain ⟨hk, hpk⟩ := List.getElem?_eq_some_iff.mp hp
    have hlt : Ls[k] < 64 := q4 _ (List.getElem_mem hk)
    have er : List.range' s (j + 1) = s :: List.range' (s + 1) j := List.range'_succ
    rw [hL_X8_init_75]
    refine w_neg (fun z => by have := (nI_leq (a := 5) (b := s) (by omega) (by omega)).mp z; omega) ?_
    obtain ⟨r, e1, a, rfl, e2, e3⟩ := il_get (nx := nx) q2 hk
    refine w_xR hM rfl rfl (w_some (w_pos q2.gC (w_call0 e1 (w_pos (gok_at e3 (by simp)) (w_some (w_pos (gC_at e3) (w_call0 (intValue_at e3) (w_some (w_pos (gC_at q0) ?_)))))))))
    refine w_call (met_at (by omega) hlt (by omega) q0 q1 ⟨by omega, by omega, fun a ha => by have := l7 a ha; omega⟩ (by omega)) ?_
    rintro y G1 c s' ⟨rfl, rfl, rfl, t⟩
    have low1 : ∀ b, b < nx → G1 b = G b := fun b hb' => t b (by omega)
    have hM1 : G1 mo = some (mcell po bo pl pt so nu) := by rw [low1 mo hmo]; exact hM
    have h1 : MPl V G1 po bo bd pl lo ld ad rs F Ls := h0.low hL0 hb low1
    have hC1 : Cst V G1 := hC.keep (fun a ha => low1 a (by omega))
    have hml := pM_lt rs Ls[k] s
    have hp3 : 2 ^ rs.length ≤ 2 ^ 3 := Nat.pow_le_pow_right (by decide) q1.2.2.1
    unfold hB_X8_init_129
    rw [hpk] at hlt hml ⊢
    by_cases c0 : pM rs p s = 0
    · refine w_pos (by rw [c0]; rfl) ?_
      obtain ⟨⟨⟨y1, y2, y3, y4, w0⟩, w1⟩, w2, w3, -, -⟩ := id h1
      obtain ⟨r, f1, a', rfl, f2, f3⟩ := il_get (nx := nx + 0 + 0 + 1) w2 hk
      rw [hpk] at f3
      refine w_xR hM1 rfl rfl (w_some (w_pos w2.gC (w_call0 f1 (w_pos (gok_at f3 (by simp)) (w_some (w_pos (gC_at f3) (w_call0 (intValue_at f3) (w_pos (gC_at w0) ?_))))))))
      refine w_call (beh_at (lp := 0) (by omega) hlt (by omega) w0 w1 ⟨by omega, by omega, fun a ha => by have := l7 a ha; omega⟩ (by omega)) ?_
      rintro y G2 c s' ⟨rfl, rfl, rfl, t2⟩
      have low2 : ∀ b, b < nx → G2 b = G b := fun b hb' => (t2 b (by omega)).trans (low1 b hb')
      have hM2 : G2 mo = some (mcell po bo pl pt so nu) := by rw [low2 mo hmo]; exact hM
      have h2 : MPl V G2 po bo bd pl lo ld ad rs F Ls := h0.low hL0 hb low2
      have hx64 := pB64 q1.2.2.2.1 p s
      refine w_pos (gC_at hM2) (w_call (comes_at hV (hC.keep (fun a ha => low2 a (by omega))) hM2 h2 (hL0.mono (show nx ≤ nx + 0 + 0 + 1 + 0 + 0 + 1 by omega)) hD0 (by omega) (by omega) hx64 (fun hn => nd_lt hnd q4 hx64 hn)) ?_)
      rintro - G3 c3 s3 ⟨z1, z2, ⟨bd', F', z3, z4, z5, z6, z7⟩, z8⟩
      have fr3 : ∀ b, b < nx → b ≠ bo → (b ≠ bd ∨ b < V.1) → ¬ F b → G3 b = G b := fun b b1 b2 b3 b4 => by rw [z8 b (by omega) b2 b3 b4]; exact low2 b b1
      have hdm := hD0.2.2.2.2.2 mo (Or.inl rfl)
      rw [nI_1]
      have hst : stP rs p Ls s = addN Ls (pB rs p s) := if_pos c0
      obtain ⟨tt, htt⟩ := addN_pre Ls (pB rs p s)
      refine ih (s + 1) m G3 _ bd' F' (addN Ls (pB rs p s)) p _ (by omega) (by omega) (hC.keep (fun a ha => fr3 a (by omega) (fun w => by have := hD0.1; omega) (Or.inr ha) (fun w => by have := hD0.2.2.2.2.1 a w; omega))) (by rw [fr3 mo hmo hdm.1 hdm.2.1 hdm.2.2]; exact hM) z3 z4 z5 (by omega) (by omega) (addN_nd hnd) (by rw [htt, List.getElem?_append_left hk]; exact hp) ?_
      intro G' c4 s4 bd4 F4 v1 v2 v3 v4 v5 v6 v7 v8 v9
      have es : stF rs p Ls (List.range' s (j + 1)) = stF rs p (addN Ls (pB rs p s)) (List.range' (s + 1) j) := by rw [er]; show stF rs p (stP rs p Ls s) _ = _; rw [hst]
      have := K G' (2 + c3 + c4) (8 + s3 + s4) bd4 F4 (by rw [er]; show MPl V G' po bo bd4 pl lo ld ad rs F4 (stF rs p (stP rs p Ls s) _); rw [hst]; exact v1) (by rw [show nx + (2 + c3 + c4) = nx + 0 + 0 + 1 + 0 + 0 + 1 + c3 + c4 by omega]; exact v2) v3 (by rw [er]; show (stF rs p (stP rs p Ls s) _).Nodup; rw [hst]; exact v4) ?_ (fun a ha => ?_) (by rw [es]; omega) (by rw [es]; omega) (fun b b1 b2 b3 b4 => ?_)
      · rw [show nx + (2 + c3 + c4) = nx + 0 + 0 + 1 + 0 + 0 + 1 + c3 + c4 by omega] at this
        refine w_mono this (fun r' G2' c' s' hq => ?_)
        rw [show 1 + (1 + (c3 + (c4 + c'))) = 2 + c3 + c4 + c' by omega, show 4 + (4 + (s3 + (s4 + s'))) = 8 + s3 + s4 + s' by omega]
        exact hq
      · rcases v5 with w | w <;> rcases z6 with w2 | w2 <;> omega
      · rcases v6 a ha with w | w
        · rcases z7 a w with w2 | w2
          · exact Or.inl w2
          · exact Or.inr (by omega)
        · exact Or.inr (by omega)
      · rw [v9 b (by omega) b2 (by rcases z6 with w | w; rw [w]; exact b3; exact Or.inl (by omega)) (fun w => by rcases z7 b w with w2 | w2; exact b4 w2; omega)]
        exact fr3 b b1 b2 b3 b4
    · refine w_neg (fun z => c0 ((nI_eq (b := 0) (by omega) (by omega)).mp z)) ?_
      rw [nI_1]
      have hst : stP rs p Ls s = Ls := if_neg c0
      refine ih (s + 1) m G1 _ bd F Ls p _ (by omega) (by omega) hC1 hM1 h1 (hL0.mono (by omega)) hD0 (by omega) (by omega) hnd hp ?_
      intro G' c4 s4 bd4 F4 v1 v2 v3 v4 v5 v6 v7 v8 v9
      have es : stF rs p Ls (List.range' s (j + 1)) = stF rs p Ls (List.range' (s + 1) j) := by rw [er]; show stF rs p (stP rs p Ls s) _ = _; rw [hst]
      have := K G' (1 + c4) (4 + s4) bd4 F4 (by rw [er]; show MPl V G' po bo bd4 pl lo ld ad rs F4 (stF rs p (stP rs p Ls s) _); rw [hst]; exact v1) (by rw [show nx + (1 + c4) = nx + 0 + 0 + 1 + c4 by omega]; exact v2) v3 (by rw [er]; show (stF rs p (stP rs p Ls s) _).Nodup; rw [hst]; exact v4) (by omega) (fun a ha => by rcases v6 a ha with w | w; exact Or.inl w; exact Or.inr (by omega)) (by rw [es]; omega) (by rw [es]; omega) (fun b b1 b2 b3 b4 => ?_)
      · rw [show nx + (1 + c4) = nx + 0 + 0 + 1 + c4 by omega] at this
        refine w_mono this (fun r' G2' c' s' hq => ?_)
        rw [show 1 + (c4 + c') = 1 + c4 + c' by omega, show 4 + (s4 + s') = 4 + s4 + s' by omega]
        exact hq
      · rw [v9 b (by omega) b2 b3 b4]; exact low1 b b1
end X

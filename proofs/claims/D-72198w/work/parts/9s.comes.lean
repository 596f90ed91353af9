/-! PURE 49: Machine.comes -/
def addN (l : List Nat) (x : Nat) : List Nat := if x ∈ l then l else l ++ [x]
section X
variable {V : HEn} {G : Gh} {nx mo po bo bd pl so nu lo ld x : Nat} {Ls ad : List Nat} {rs : List Ru} {F : Nat → Prop} {pt : Option Nat}
/-- the parts of a machine lie apart -/
def MDis (V : HEn) (mo po bo bd lo ld : Nat) (ad : List Nat) (F : Nat → Prop) : Prop := V.1 ≤ bo ∧ bo ≠ bd ∧ ¬ F bo ∧ ¬ F bd ∧ (∀ a, F a → V.1 ≤ a) ∧ (∀ y, (y = mo ∨ y = po ∨ y = lo ∨ y = ld ∨ y ∈ ad) → y ≠ bo ∧ (y ≠ bd ∨ y < V.1) ∧ ¬ F y)
theorem il_add {o d : Nat} {l : List Nat} {r : Option Nat} (h : IL V G o d l) (hl : l.length ≤ 100) (hr : IsInt V G r x) (hold : o < nx ∧ d < nx) (hbx : V.1 ≤ nx) (ho : V.1 ≤ o) : wH (hF_J2_add V G nx o r) (fun q G' c s => q = 1 ∧ c ≤ 1 ∧ s ≤ 150 ∧ (∃ d', IL V G' o d' (l ++ [x]) ∧ ((d' = d ∧ c = 0) ∨ (d' = nx ∧ c = 1))) ∧ ∀ b, b ≠ o → (b ≠ d ∨ b < V.1) → b < nx → G' b = G b) := by
  obtain ⟨rl, q1, q2, q3⟩ := h
  have hd : ∀ a, a < V.1 → (∃ z, G a = some (.inr (26, z))) → a ≠ d := by
    rintro a ha ⟨z, e⟩ w
    obtain ⟨m, n, ff, -, w2, -⟩ := q1
    rw [w, w2] at e; cases e
  have mem : ∀ y ∈ rl, ∃ v, IsInt V G y v := fun y hy => by
    obtain ⟨j, hj, e⟩ := List.getElem_of_mem hy
    exact ⟨_, e ▸ q3 j hj (by omega)⟩
  have all : ∀ y, (y ∈ rl ∨ y = r) → ∃ v, IsInt V G y v := fun y hy => by
    rcases hy with z | z
    · exact mem y z
    · exact ⟨x, z ▸ hr⟩
  refine w_mono (al_add (x := r) q1 (by omega) hold hbx trivial (fun y hy => ?_) ?_ (fun y hy a ha => ?_)) ?_
  · obtain ⟨v, a, rfl, a1, a2⟩ := mem y hy
    exact gokA_at a2 (by simp [okL]) (by decide)
  · obtain ⟨a, rfl, a1, a2⟩ := hr
    exact gokA_at a2 (by simp [okL]) (by decide)
  · obtain ⟨v, a', e, a1, a2⟩ := all y hy
    rw [e] at ha
    cases ha
    exact ⟨by omega, by omega, hd _ a1 ⟨_, a2⟩⟩
  · rintro q G' c s ⟨z1, z2, z3, ⟨d', z4, z5⟩, z6⟩
    have low : ∀ a, a < V.1 → G' a = G a := fun a ha => z6 a (by omega) (Or.inr ha) (by omega)
    refine ⟨z1, z2, z3, ⟨d', ⟨rl ++ [r], z4, by simp [q2], fun j hj hj' => ?_⟩, z5⟩, z6⟩
    by_cases c : j < rl.length
    · rw [List.getElem_append_left c, List.getElem_append_left (by omega)]; exact (q3 j c (by omega)).keep low
    · have : j = rl.length := by simp at hj; omega
      subst this
      simp only [q2, List.getElem_concat_length]
      exact hr.keep low
theorem IM.gC19 {M : Nat → Option Nat} {cnt : Nat} (h : IM V G pl 19 F M cnt) : gC G pl 19 = true := by
  obtain ⟨-, -, -, z⟩ := h
  have : ∃ tab sz mc th tl, HOb G pl 19 tab sz mc th tl := by
    rcases z with ⟨mc, z1, -⟩ | ⟨nc, td, n, N, hs, kr, vr, nxt, bn, tl, mc, ky, vl, z1, -⟩
    · exact ⟨_, _, _, _, _, z1⟩
    · exact ⟨_, _, _, _, _, z1.1⟩
  obtain ⟨tab, sz, mc, th, tl, z⟩ := this
  rcases z with ⟨-, -, u0, u1, u3, lf, e⟩ | ⟨w, -⟩
  · exact gC_at e
  · cases w
theorem comes_at (hV : 1200 ≤ V.2.2.2.2) (hC : Cst V G) (hM : G mo = some (mcell po bo pl pt so nu)) (h : MPl V G po bo bd pl lo ld ad rs F Ls) (hL : MLow nx po bo bd pl lo ld ad F) (hD : MDis V mo po bo bd lo ld ad F) (hmo : mo < nx) (hb : V.1 ≤ nx) (hx : x < 64) (hl : x ∉ Ls → Ls.length < 64) :
    wH (hF_X8_comes V G nx mo (nI x)) (fun _ G' c s => c + 4 * Ls.length ≤ 4 * (addN Ls x).length ∧ s + 300 * Ls.length ≤ 300 * (addN Ls x).length ∧ (∃ bd' F', MPl V G' po bo bd' pl lo ld ad rs F' (addN Ls x) ∧ MLow (nx + c) po bo bd' pl lo ld ad F' ∧ MDis V mo po bo bd' lo ld ad F' ∧ (bd' = bd ∨ nx ≤ bd') ∧ ∀ a, F' a → F a ∨ nx ≤ a) ∧ ∀ b, b < nx → b ≠ bo → (b ≠ bd ∨ b < V.1) → ¬ F b → G' b = G b) := by
  have h0 := h
  have hL0 := hL
  have hD0 := hD
  obtain ⟨q1, q2, q3, q4, q5⟩ := h
  obtain ⟨l1, l2, l3, l4, l5, l6, l7, l8⟩ := hL
  obtain ⟨d1, d2, d3, d4, d5, d6⟩ := hD
  obtain ⟨r, e1, a, rfl, e2, e3⟩ := valueOf_at (nx := nx) hC (show x < 128 by omega)
  have hI : IsInt V G (some a) x := ⟨a, rfl, e2, e3⟩
  unfold hF_X8_comes hB_X8_comes_52
  refine w_xR hM rfl rfl (w_call0 e1 (w_some (w_pos q3.gC19 (w_call0 (q3.has (by omega) hI hx) ?_))))
  by_cases c : x ∈ Ls
  · have en : addN Ls x = Ls := if_pos c
    obtain ⟨j, hj⟩ := ixL_mem c
    refine w_neg (by rw [hj, if_neg (by simp)]; decide) (w_ret ⟨by rw [en]; omega, by rw [en]; omega, ⟨bd, F, by rw [en]; exact h0, hL0.mono (by omega), hD0, Or.inl rfl, fun a ha => Or.inl ha⟩, fun _ _ _ _ _ => rfl⟩)
  · have en : addN Ls x = Ls ++ [x] := if_neg c
    have hm : ixL Ls x = none := if_neg c
    have hlt := hl c
    refine w_pos (by rw [hm]; rfl) (w_xR hM rfl rfl ?_)
    obtain ⟨r2, f1, a2, rfl, f2, f3⟩ := valueOf_at (nx := nx + 0 + 0) hC (show x < 128 by omega)
    refine w_call0 f1 (w_xR hM rfl rfl (w_some (w_pos q2.gC (w_call0 (il_size q2) ?_))))
    obtain ⟨r3, g1, a3, rfl, g2, g3⟩ := valueOf_at (nx := nx + 0 + 0 + 0 + 0) hC (show Ls.length < 128 by omega)
    refine w_call0 g1 (w_some (w_pos q3.gC19 ?_))
    refine w_call (q3.put (by omega) ⟨a2, rfl, f2, f3⟩ ⟨a3, rfl, g2, g3⟩ hx (by omega) hm (by omega) (fun y hy => by have := l8 y hy; omega)) ?_
    rintro r G1 c1 s1 ⟨t1, t2, t3, t4⟩
    have low1 : ∀ y, y < V.1 → G1 y = G y := fun y hy => t4 y (fun w => by have := d5 y w; omega) (by omega)
    have hM1 : G1 mo = some (mcell po bo pl pt so nu) := by rw [t4 mo (d6 mo (Or.inl rfl)).2.2 (by omega)]; exact hM
    have hq2 : IL V G1 bo bd Ls := q2.keep (t4 bo d3 (by omega)) (t4 bd d4 (by omega)) low1
    refine w_xR hM1 rfl rfl ?_
    obtain ⟨r4, i1, a4, rfl, i2, i3⟩ := valueOf_at (nx := nx + 0 + 0 + 0 + 0 + 0 + c1) (hC.keep low1) (show x < 128 by omega)
    refine w_call0 i1 ?_
    unfold hB_X8_comes_46 hB_X8_comes_52
    refine w_some (w_pos hq2.gC ?_)
    refine w_call (il_add (x := x) hq2 (by omega) ⟨a4, rfl, i2, i3⟩ ⟨by omega, by omega⟩ (by omega) d1) ?_
    rintro r G2 c2 s2 ⟨u1, u2, u3, ⟨bd', u4, u5⟩, u6⟩
    have low2 : ∀ y, y < V.1 → G2 y = G1 y := fun y hy => u6 y (by omega) (Or.inr hy) (by omega)
    have fr : ∀ b, b < nx → b ≠ bo → (b ≠ bd ∨ b < V.1) → ¬ F b → G2 b = G b := fun b b1 b2 b3 b4 => by rw [u6 b b2 b3 (by omega)]; exact t4 b b4 (by omega)
    have keepY : ∀ y, (y = mo ∨ y = po ∨ y = lo ∨ y = ld ∨ y ∈ ad) → y < nx → G2 y = G y := fun y hy hy2 => fr y hy2 (d6 y hy).1 (d6 y hy).2.1 (d6 y hy).2.2
    have bdc : bd' = bd ∨ nx ≤ bd' := by rcases u5 with z | z <;> omega
    have bdl : bd' < nx + (c1 + c2) := by rcases u5 with z | z <;> omega
    refine w_ret ⟨by rw [en, List.length_append]; simp; omega, by rw [en, List.length_append]; simp; omega, ⟨bd', fun y => F y ∨ (nx ≤ y ∧ y < nx + c1), ⟨q1.keep (keepY po (by simp) l1) (keepY lo (by simp) l5) (keepY ld (by simp) l6) (fun y hy => keepY y (by simp [hy]) (l7 y hy)), by rw [en]; exact u4, ?_, ?_, ?_⟩, ?_, ?_, bdc, fun y hy => by rcases hy with w | w; exact Or.inl w; exact Or.inr w.1⟩, fr⟩
    · rw [en, ixL_app c, List.length_append]
      refine t3.keep (fun y hy => u6 y ?_ ?_ ?_) low2
      · rintro rfl; rcases hy with w | w; exact d3 w; omega
      · refine Or.inl ?_
        rintro rfl; rcases hy with w | w; exact d4 w; omega
      · rcases hy with w | w; have := l8 y w; omega; omega
    · rw [en]
      intro y hy
      rcases List.mem_append.mp hy with w | w
      · exact q4 y w
      · simp at w; omega
    · rw [en, List.length_append]; simp; omega
    · refine ⟨by omega, by omega, by omega, by omega, by omega, by omega, fun y hy => by have := l7 y hy; omega, fun y hy => ?_⟩
      rcases hy with w | w
      · have := l8 y w; omega
      · omega
    · refine ⟨d1, by omega, ?_, ?_, fun y hy => ?_, fun y hy => ⟨(d6 y hy).1, ?_, ?_⟩⟩
      · rintro (w | w); exact d3 w; omega
      · rintro (w | w)
        · rcases bdc with z | z
          · exact d4 (z ▸ w)
          · have := l8 _ w; omega
        · rcases u5 with z | z <;> omega
      · rcases hy with w | w; exact d5 y w; omega
      · rcases u5 with ⟨z, -⟩ | ⟨z, -⟩
        · rw [z]; exact (d6 y hy).2.1
        · have : y < nx := by rcases hy with w | w | w | w | w; omega; omega; omega; omega; exact l7 y w
          exact Or.inl (by omega)
      · rintro (w | w)
        · exact (d6 y hy).2.2 w
        · have : y < nx := by rcases hy with w | w | w | w | w; omega; omega; omega; omega; exact l7 y w
          omega
end X

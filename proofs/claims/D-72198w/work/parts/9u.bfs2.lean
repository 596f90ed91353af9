/-! PURE 51: the machine's places, all -/
def bfsL (rs : List Ru) : Nat → Nat → List Nat → List Nat
  | 0, _, l => l
  | n + 1, k, l => match l[k]? with
    | none => l
    | some p => bfsL rs n (k + 1) (stF rs p l (List.range' 0 5))
theorem stF_pre (rs : List Ru) (p : Nat) : ∀ (ss l : List Nat), ∃ t, stF rs p l ss = l ++ t
  | [], l => ⟨[], by simp [stF]⟩
  | s :: ss, l => by
    obtain ⟨t1, h1⟩ := stP_pre rs p l s
    obtain ⟨t2, h2⟩ := stF_pre rs p ss (stP rs p l s)
    refine ⟨t1 ++ t2, ?_⟩
    show stF rs p (stP rs p l s) ss = _
    rw [h2, h1, List.append_assoc]
section X
variable {V : HEn} {mo po bo pl so nu lo ld : Nat} {ad : List Nat} {rs : List Ru} {pt : Option Nat}
theorem place_loop (hV : 1200 ≤ V.2.2.2.2) : ∀ (j k m : Nat) (G : Gh) (nx bd : Nat) (F : Nat → Prop) (Ls : List Nat) (Q : Unit → Gh → Nat → Nat → Prop), k + j = 64 → j + 1 ≤ m → k ≤ Ls.length → Cst V G → G mo = some (mcell po bo pl pt so nu) → MPl V G po bo bd pl lo ld ad rs F Ls → MLow nx po bo bd pl lo ld ad F → MDis V mo po bo bd lo ld ad F → mo < nx → V.1 ≤ nx → Ls.Nodup →
    (∀ (m' : Nat) (G' : Gh) (c1 s1 bd' : Nat) (F' : Nat → Prop), MPl V G' po bo bd' pl lo ld ad rs F' (bfsL rs j k Ls) → MLow (nx + c1) po bo bd' pl lo ld ad F' → MDis V mo po bo bd' lo ld ad F' → (bfsL rs j k Ls).Nodup → (bd' = bd ∨ nx ≤ bd') → (∀ a, F' a → F a ∨ nx ≤ a) → c1 + 4 * Ls.length ≤ 10 * j + 4 * (bfsL rs j k Ls).length → s1 + 300 * Ls.length ≤ 40 * j + 300 * (bfsL rs j k Ls).length → (∀ b, b < nx → b ≠ bo → (b ≠ bd ∨ b < V.1) → ¬ F b → G' b = G b) → wH (hL_X8_init_60 V mo (m' + 1) G' (nx + c1) (some po) (nI (bfsL rs j k Ls).length)) (fun r G2 c s2 => Q r G2 (c1 + c) (s1 + s2))) →
    wH (hL_X8_init_60 V mo m G nx (some po) (nI k)) Q := by
  intro j
  induction j with
  | zero =>
    intro k m G nx bd F Ls Q hj hm hkl hC hM h hL hD hmo hb hnd K
    obtain ⟨m, rfl⟩ := Nat.exists_eq_succ_of_ne_zero (show m ≠ 0 by omega)
    have h64 := h.2.2.2.2
    have e : Ls.length = k := by omega
    have := K m G 0 0 bd F h (hL.mono (by omega)) hD hnd (Or.inl rfl) (fun a ha => Or.inl ha) (by show 0 + 4 * Ls.length ≤ 10 * 0 + 4 * Ls.length; omega) (by show 0 + 300 * Ls.length ≤ 40 * 0 + 300 * Ls.length; omega) (fun _ _ _ _ _ => rfl)
    rw [show (bfsL rs 0 k Ls).length = k from e] at this
    simpa using this
  | succ j ih =>
    intro k m G nx bd F Ls Q hj hm hkl hC hM h hL hD hmo hb hnd K
    obtain ⟨m, rfl⟩ := Nat.exists_eq_succ_of_ne_zero (show m ≠ 0 by omega)
    have h64 := h.2.2.2.2
    cases ek : Ls[k]? with
    | none =>
      have e : Ls.length = k := by
        have := List.getElem?_eq_none_iff.mp ek
        omega
      have eb : bfsL rs (j + 1) k Ls = Ls := by rw [bfsL, ek]
      have := K m G 0 0 bd F (by rw [eb]; exact h) (hL.mono (by omega)) hD (by rw [eb]; exact hnd) (Or.inl rfl) (fun a ha => Or.inl ha) (by rw [eb]; omega) (by rw [eb]; omega) (fun _ _ _ _ _ => rfl)
      rw [eb, e] at this
      simpa using this
    | some p =>
      have eb : bfsL rs (j + 1) k Ls = bfsL rs j (k + 1) (stF rs p Ls (List.range' 0 5)) := by rw [bfsL, ek]
      have hk := (List.getElem?_eq_some_iff.mp ek).1
      rw [hL_X8_init_60]
      refine w_xR hM rfl rfl (w_some (w_pos h.2.1.gC (w_call0 (il_size h.2.1) (w_neg (fun z => by have := (nI_leq (by omega) (by omega)).mp z; omega) ?_))))
      refine sign_loop hV 5 0 V.2.2.2.2 G _ bd F Ls p _ (by omega) (by omega) hC hM h (hL.mono (by omega)) hD (by omega) (by omega) hnd ek ?_
      intro G' c1 s1 bd1 F1 v1 v2 v3 v4 v5 v6 v7 v8 v9
      rw [nI_1]
      obtain ⟨tt, htt⟩ := stF_pre rs p (List.range' 0 5) Ls
      have hdm := hD.2.2.2.2.2 mo (Or.inl rfl)
      refine ih (k + 1) m G' _ bd1 F1 (stF rs p Ls (List.range' 0 5)) _ (by omega) (by omega) (by rw [htt, List.length_append]; omega) (hC.keep (fun a ha => v9 a (by omega) (fun w => by have := hD.1; omega) (Or.inr ha) (fun w => by have := hD.2.2.2.2.1 a w; omega))) (by rw [v9 mo (by omega) hdm.1 hdm.2.1 hdm.2.2]; exact hM) v1 v2 v3 (by omega) (by omega) v4 ?_
      intro m' G2 c2 s2 bd2 F2 z1 z2 z3 z4 z5 z6 z7 z8 z9
      have := K m' G2 (c1 + c2) (s1 + s2) bd2 F2 (by rw [eb]; exact z1) (by rw [show nx + (c1 + c2) = nx + 0 + c1 + c2 by omega]; exact z2) z3 (by rw [eb]; exact z4) (by rcases v5 with w | w <;> rcases z5 with w2 | w2 <;> omega) (fun a ha => ?_) (by rw [eb]; omega) (by rw [eb]; omega) (fun b b1 b2 b3 b4 => ?_)
      · rw [show nx + (c1 + c2) = nx + 0 + c1 + c2 by omega, eb] at this
        refine w_mono this (fun r' G2' c' s' hq => ?_)
        rw [show c1 + (c2 + c') = c1 + c2 + c' by omega, show s1 + (s2 + s') = s1 + s2 + s' by omega]
        exact hq
      · rcases z6 a ha with w | w
        · rcases v6 a w with w2 | w2
          · exact Or.inl w2
          · exact Or.inr (by omega)
        · exact Or.inr (by omega)
      · rw [z9 b (by omega) b2 (by rcases v5 with w | w; rw [w]; exact b3; exact Or.inl (by omega)) (fun w => by rcases v6 b w with w2 | w2; exact b4 w2; omega)]
        exact v9 b (by omega) b2 b3 b4
end X

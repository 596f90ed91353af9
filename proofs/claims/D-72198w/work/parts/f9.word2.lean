/-! PURE F9: the model's words, whole -/
section X
variable {N : Nat} {x : Nat → Int32}
theorem wdS_len {w : List Nat} (h4 : w.length ≠ 4) (h6 : w.length ≠ 6) : wdS w = 6 := by
  unfold wdS
  rw [if_neg (fun e => h4 (by rw [e]; rfl)), if_neg (fun e => h6 (by rw [e]; rfl)), if_neg (fun e => h4 (by rw [e]; rfl))]
theorem word_m {b : Nat} {w : List Nat} (hb : b + w.length ≤ 120) (hx : ∀ i (h : i < w.length), x (b + i) = nI w[i]) (h256 : ∀ c ∈ w, c < 256) : mF_wordOf N x (nI b) (nI w.length) = some (nI (mS (wdS w))) := by
  unfold mF_wordOf mB_wordOf_45 mB_wordOf_103 mB_wordOf_104 mB_wordOf_114
  by_cases l4 : w.length = 4
  · match w, l4 with
    | [c0, c1, c2, c3], _ =>
      simp only [List.length_cons, List.length_nil] at hb hx
      have e0 := hx 0 (by omega)
      have e1 := hx 1 (by omega)
      have e2 := hx 2 (by omega)
      have e3 := hx 3 (by omega)
      simp at e0 e1 e2 e3 h256
      rw [if_pos (show nI [c0, c1, c2, c3].length = (4 : Int32) from rfl)]
      rw [show (114 : Int32) = nI 114 from rfl, show (117 : Int32) = nI 117 from rfl, show (108 : Int32) = nI 108 from rfl, show (101 : Int32) = nI 101 from rfl, show (115 : Int32) = nI 115 from rfl, show (109 : Int32) = nI 109 from rfl, isWord_m (by omega) e0 e1 e2 e3 (by omega) (by omega), isWord_m (by omega) e0 e1 e2 e3 (by omega) (by omega)]
      simp only [Option.bind_some]
      by_cases k1 : c0 = 114 ∧ c1 = 117 ∧ c2 = 108 ∧ c3 = 101
      · obtain ⟨rfl, rfl, rfl, rfl⟩ := k1
        rfl
      · rw [if_neg k1, if_pos rfl]
        by_cases k2 : c0 = 115 ∧ c1 = 117 ∧ c2 = 109 ∧ c3 = 115
        · obtain ⟨rfl, rfl, rfl, rfl⟩ := k2
          rfl
        · rw [if_neg k2, if_pos rfl]
          have : wdS [c0, c1, c2, c3] = 6 := by
            unfold wdS
            rw [if_neg (fun e => k1 (by simpa using e)), if_neg (by simp), if_neg (fun e => k2 (by simpa using e))]
          rw [this]; rfl
  · rw [if_neg (show ¬ nI w.length = (4 : Int32) from fun z => l4 ((nI_eq (b := 4) (by omega) (by omega)).mp z))]
    by_cases l6 : w.length = 6
    · match w, l6 with
      | [c0, c1, c2, c3, c4, c5], _ =>
        simp only [List.length_cons, List.length_nil] at hb hx
        have e0 := hx 0 (by omega)
        have e1 := hx 1 (by omega)
        have e2 := hx 2 (by omega)
        have e3 := hx 3 (by omega)
        have e4 := hx 4 (by omega)
        have e5 := hx 5 (by omega)
        simp at e0 e1 e2 e3 e4 e5 h256
        rw [if_pos (show nI [c0, c1, c2, c3, c4, c5].length = (6 : Int32) from rfl)]
        rw [show mF_isWord N x (nI b) 99 104 97 110 = _ from isWord_m (d0 := 99) (d1 := 104) (d2 := 97) (d3 := 110) (by omega) e0 e1 e2 e3 (by omega) (by omega)]
        simp only [Option.bind_some]
        rw [show nI b + 4 = nI (b + 4) from nI_add b 4, show nI b + 5 = nI (b + 5) from nI_add b 5, gd_nI (by omega) (by omega), gd_nI (by omega) (by omega)]
        simp only [Option.bind_some]
        rw [e4, e5]
        have bad : ¬ (c0 = 99 ∧ c1 = 104 ∧ c2 = 97 ∧ c3 = 110 ∧ c4 = 99 ∧ c5 = 101) → wdS [c0, c1, c2, c3, c4, c5] = 6 := fun k => by
          unfold wdS
          rw [if_neg (by simp), if_neg (fun e => k (by simpa using e)), if_neg (by simp)]
        by_cases k1 : c0 = 99 ∧ c1 = 104 ∧ c2 = 97 ∧ c3 = 110
        · rw [if_pos k1, if_neg (by decide)]
          by_cases k4 : c4 = 99
          · rw [if_pos (show nI c4 = (99 : Int32) from by rw [k4]; rfl)]
            by_cases k5 : c5 = 101
            · rw [if_pos (show nI c5 = (101 : Int32) from by rw [k5]; rfl)]
              obtain ⟨rfl, rfl, rfl, rfl⟩ := k1
              subst k4; subst k5
              rfl
            · rw [if_neg (show ¬ nI c5 = (101 : Int32) from fun z => k5 ((nI_eq (b := 101) (by omega) (by omega)).mp z)), bad (fun k => k5 k.2.2.2.2.2)]; rfl
          · rw [if_neg (show ¬ nI c4 = (99 : Int32) from fun z => k4 ((nI_eq (b := 99) (by omega) (by omega)).mp z)), bad (fun k => k4 k.2.2.2.2.1)]; rfl
        · rw [if_neg k1, if_pos rfl, bad (fun k => k1 ⟨k.1, k.2.1, k.2.2.1, k.2.2.2.1⟩)]; rfl
    · rw [if_neg (show ¬ nI w.length = (6 : Int32) from fun z => l6 ((nI_eq (b := 6) (by omega) (by omega)).mp z)), wdS_len l4 l6]; rfl
end X

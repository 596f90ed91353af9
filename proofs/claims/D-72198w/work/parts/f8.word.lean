/-! PURE F8: the model's words -/
/-- the model's sorts -/
def mS (s : Nat) : Nat := if s = 0 then 2 else if s = 1 then 1 else if s = 2 then 59 else if s = 3 then 4 else if s = 4 then 5 else if s = 5 then 6 else 3
section X
variable {N : Nat} {x : Nat → Int32}
theorem isWord_m {b c0 c1 c2 c3 d0 d1 d2 d3 : Nat} (hb : b + 4 ≤ 120) (e0 : x b = nI c0) (e1 : x (b + 1) = nI c1) (e2 : x (b + 2) = nI c2) (e3 : x (b + 3) = nI c3) (h : c0 < 256 ∧ c1 < 256 ∧ c2 < 256 ∧ c3 < 256) (hd : d0 < 256 ∧ d1 < 256 ∧ d2 < 256 ∧ d3 < 256) : mF_isWord N x (nI b) (nI d0) (nI d1) (nI d2) (nI d3) = some (if c0 = d0 ∧ c1 = d1 ∧ c2 = d2 ∧ c3 = d3 then 1 else 0) := by
  unfold mF_isWord mB_isWord_63 mB_isWord_64
  rw [show nI b + 1 = nI (b + 1) from nI_add b 1, show nI b + 2 = nI (b + 2) from nI_add b 2, show nI b + 3 = nI (b + 3) from nI_add b 3, gd_nI (by omega) (by omega), gd_nI (by omega) (by omega), gd_nI (by omega) (by omega), gd_nI (by omega) (by omega)]
  simp only [Option.bind_some]
  rw [e0, e1, e2, e3]
  by_cases k0 : c0 = d0
  · rw [if_pos (show nI c0 = nI d0 by rw [k0])]
    by_cases k1 : c1 = d1
    · rw [if_pos (show nI c1 = nI d1 by rw [k1])]
      by_cases k2 : c2 = d2
      · rw [if_pos (show nI c2 = nI d2 by rw [k2])]
        by_cases k3 : c3 = d3
        · rw [if_pos (show nI c3 = nI d3 by rw [k3]), if_pos (show (c0 = d0 ∧ c1 = d1 ∧ c2 = d2 ∧ c3 = d3) from ⟨k0, k1, k2, k3⟩)]; rfl
        · rw [if_neg (fun z => k3 ((nI_eq (by omega) (by omega)).mp z)), if_neg (show ¬ (c0 = d0 ∧ c1 = d1 ∧ c2 = d2 ∧ c3 = d3) from fun z => k3 z.2.2.2)]; rfl
      · rw [if_neg (fun z => k2 ((nI_eq (by omega) (by omega)).mp z)), if_neg (show ¬ (c0 = d0 ∧ c1 = d1 ∧ c2 = d2 ∧ c3 = d3) from fun z => k2 z.2.2.1)]; rfl
    · rw [if_neg (fun z => k1 ((nI_eq (by omega) (by omega)).mp z)), if_neg (show ¬ (c0 = d0 ∧ c1 = d1 ∧ c2 = d2 ∧ c3 = d3) from fun z => k1 z.2.1)]; rfl
  · rw [if_neg (fun z => k0 ((nI_eq (by omega) (by omega)).mp z)), if_neg (show ¬ (c0 = d0 ∧ c1 = d1 ∧ c2 = d2 ∧ c3 = d3) from fun z => k0 z.1)]; rfl
end X

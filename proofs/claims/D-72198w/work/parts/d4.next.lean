/-! PURE 91: Reader.next -/
def okW (w : List Nat) : Bool := decide (w = [] ∨ w = [59] ∨ w = [114, 117, 108, 101] ∨ w = [99, 104, 97, 110, 99, 101] ∨ w = [115, 117, 109, 115])
theorem hsh_c : hsh [] = 0 ∧ hsh [59] = 59 ∧ hsh [114, 117, 108, 101] = 3512060 ∧ hsh [99, 104, 97, 110, 99, 101] = -1361636556 ∧ hsh [115, 117, 109, 115] = 3541896 := by decide +kernel
/-- the Reader's word is known -/
def RdW (V : HEn) (G : Gh) (nx ro so sd po at_ bg : Nat) (nu : Int32) (it on : Nat) (l w : List Nat) : Prop := ∃ wo wd, G ro = some (rdc so po at_ bg wo nu it on) ∧ Str V G so sd l False ∧ Str V G wo wd w True ∧ wo < nx ∧ wd < nx ∧ (wo = so ∨ wo < V.1 ∨ ro < wo) ∧ (wd = sd ∨ wd < V.1 ∨ ro < wd)
/-- the switch over a word -/
def swE (V : HEn) (ro : Nat) (G : Gh) (nx wo : Nat) (y : Int32) : HO (Unit ⊕ Nat) := if y = (-1361636556) then (if gC G wo 25 = true then cB (hF_J7_equals V G nx wo (some (V.2.2.2.1 4))) fun y52 G53 c54 => if y52 = 0 then (hB_X4_next_375 V ro G53 (nx + c54) (-1)) else (hB_X4_next_375 V ro G53 (nx + c54) 3) else none)
  else (if y = 0 then (if gC G wo 25 = true then cB (hF_J7_equals V G nx wo (some (V.2.2.2.1 0))) fun y62 G63 c64 => if y62 = 0 then (hB_X4_next_375 V ro G63 (nx + c64) (-1)) else (hB_X4_next_375 V ro G63 (nx + c64) 0) else none)
  else (if y = 59 then (if gC G wo 25 = true then cB (hF_J7_equals V G nx wo (some (V.2.2.2.1 2))) fun y72 G73 c74 => if y72 = 0 then (hB_X4_next_375 V ro G73 (nx + c74) (-1)) else (hB_X4_next_375 V ro G73 (nx + c74) 1) else none)
  else (if y = 3512060 then (if gC G wo 25 = true then cB (hF_J7_equals V G nx wo (some (V.2.2.2.1 3))) fun y82 G83 c84 => if y82 = 0 then (hB_X4_next_375 V ro G83 (nx + c84) (-1)) else (hB_X4_next_375 V ro G83 (nx + c84) 2) else none)
  else (if y = 3541896 then (if gC G wo 25 = true then cB (hF_J7_equals V G nx wo (some (V.2.2.2.1 5))) fun y92 G93 c94 => if y92 = 0 then (hB_X4_next_375 V ro G93 (nx + c94) (-1)) else (hB_X4_next_375 V ro G93 (nx + c94) 4) else none)
  else (hB_X4_next_375 V ro G nx (-1))))))
section X
variable {V : HEn} {G : Gh} {nx ro so sd po at_ bg wo wd it on : Nat} {nu : Int32} {l w : List Nat} {st : Prop}
theorem swd_at (hV : 1200 ≤ V.2.2.2.2) (hC : StC V G) (hR : G ro = some (rdc so po at_ bg wo nu it on)) (hro : ro < nx) (hb : V.1 ≤ nx) (hW : Str V G wo wd w True) :
    wH (swE V ro G nx wo (hsh w)) (fun r G' c s => c ≤ 1 ∧ s ≤ 7 ∧ (∀ b, b < nx → G' b = G b) ∧ ((okW w = true ∧ r = .inl () ∧ c = 0) ∨ (okW w = false ∧ ∃ q, r = .inr q ∧ nx ≤ q ∧ q < nx + c ∧ FtA G' q bg))) := by
  obtain ⟨k0, k2, k3, k4, k5⟩ := hsh_c
  have bad : okW w = false → ∀ nx', nx' = nx → wH (hB_X4_next_375 V ro G nx' (-1)) (fun r G' c s => c ≤ 1 ∧ s ≤ 7 ∧ (∀ b, b < nx → G' b = G b) ∧ ((okW w = true ∧ r = .inl () ∧ c = 0) ∨ (okW w = false ∧ ∃ q, r = .inr q ∧ nx ≤ q ∧ q < nx + c ∧ FtA G' q bg))) := by
    intro h nx' hn
    subst hn
    unfold hB_X4_next_375 hB_X4_next_420
    refine w_neg (by decide) (w_neg (by decide) (w_neg (by decide) (w_neg (by decide) (w_neg (by decide) (w_pos (gC_at hR) (w_xB (wants_no hR hro hb) ?_ ?_))))))
    · rintro r G1 c s ⟨q1, -⟩
      cases q1
    · rintro q G1 c s ⟨q1, q2, q3, q4, q5⟩
      cases q1
      exact ⟨by omega, by omega, q5, Or.inr ⟨h, nx', rfl, Nat.le_refl _, by omega, q4⟩⟩
  have good : ∀ (v : Int32), (v = 0 ∨ v = 1 ∨ v = 2 ∨ v = 3 ∨ v = 4) → okW w = true → wH (hB_X4_next_375 V ro G nx v) (fun r G' c s => c ≤ 1 ∧ s ≤ 7 ∧ (∀ b, b < nx → G' b = G b) ∧ ((okW w = true ∧ r = .inl () ∧ c = 0) ∨ (okW w = false ∧ ∃ q, r = .inr q ∧ nx ≤ q ∧ q < nx + c ∧ FtA G' q bg))) := by
    intro v hv h
    unfold hB_X4_next_375 hB_X4_next_420
    have fin : wH (some (Sum.inl (), G, 0, 0) : HO (Unit ⊕ Nat)) (fun r G' c s => c ≤ 1 ∧ s ≤ 7 ∧ (∀ b, b < nx → G' b = G b) ∧ ((okW w = true ∧ r = .inl () ∧ c = 0) ∨ (okW w = false ∧ ∃ q, r = .inr q ∧ nx ≤ q ∧ q < nx + c ∧ FtA G' q bg))) := w_ret ⟨by omega, by omega, fun _ _ => rfl, Or.inl ⟨h, rfl, rfl⟩⟩
    rcases hv with rfl | rfl | rfl | rfl | rfl
    · exact w_pos rfl fin
    · exact w_neg (by decide) (w_pos rfl fin)
    · exact w_neg (by decide) (w_neg (by decide) (w_pos rfl fin))
    · exact w_neg (by decide) (w_neg (by decide) (w_neg (by decide) (w_pos rfl fin)))
    · exact w_neg (by decide) (w_neg (by decide) (w_neg (by decide) (w_neg (by decide) (w_pos rfl fin))))
  -- a text of the same hash
  have eqs : ∀ (i : Nat) (h : i < stL.length) (v : Int32), (v = 0 ∨ v = 1 ∨ v = 2 ∨ v = 3 ∨ v = 4) → okW stL[i] = true → (∀ w', okW w' = true → hsh w' = hsh w → w' = stL[i]) → wH (if gC G wo 25 = true then cB (hF_J7_equals V G nx wo (some (V.2.2.2.1 i))) fun y52 G53 c54 => if y52 = 0 then (hB_X4_next_375 V ro G53 (nx + c54) (-1)) else (hB_X4_next_375 V ro G53 (nx + c54) v) else none) (fun r G' c s => c ≤ 1 ∧ s ≤ 7 ∧ (∀ b, b < nx → G' b = G b) ∧ ((okW w = true ∧ r = .inl () ∧ c = 0) ∨ (okW w = false ∧ ∃ q, r = .inr q ∧ nx ≤ q ∧ q < nx + c ∧ FtA G' q bg))) := by
    intro i hi v hv ho hu
    obtain ⟨d, d1, d2, d3⟩ := hC i hi
    refine w_pos hW.gC (w_call0 (str_equals hV hW d3) ?_)
    by_cases c : w = stL[i]
    · rw [if_pos c]
      exact w_neg (by decide) (good v hv (by rw [c]; exact ho))
    · rw [if_neg c]
      refine w_pos rfl (bad ?_ _ rfl)
      cases e : okW w with
      | false => rfl
      | true => exact absurd (hu w e rfl) c
  have uq : ∀ w', okW w' = true → w' = [] ∨ w' = [59] ∨ w' = [114, 117, 108, 101] ∨ w' = [99, 104, 97, 110, 99, 101] ∨ w' = [115, 117, 109, 115] := fun w' h => of_decide_eq_true h
  unfold swE
  by_cases c4 : hsh w = -1361636556
  · refine w_pos c4 (eqs 4 (by decide) 3 (by simp) (by decide) (fun w' h1 h2 => ?_))
    rw [c4] at h2
    rcases uq w' h1 with e | e | e | e | e
    · rw [e, k0] at h2; exact absurd h2 (by decide)
    · rw [e, k2] at h2; exact absurd h2 (by decide)
    · rw [e, k3] at h2; exact absurd h2 (by decide)
    · exact e
    · rw [e, k5] at h2; exact absurd h2 (by decide)
  refine w_neg c4 ?_
  by_cases c0 : hsh w = 0
  · refine w_pos c0 (eqs 0 (by decide) 0 (by simp) (by decide) (fun w' h1 h2 => ?_))
    rw [c0] at h2
    rcases uq w' h1 with e | e | e | e | e
    · exact e
    · rw [e, k2] at h2; exact absurd h2 (by decide)
    · rw [e, k3] at h2; exact absurd h2 (by decide)
    · rw [e, k4] at h2; exact absurd h2 (by decide)
    · rw [e, k5] at h2; exact absurd h2 (by decide)
  refine w_neg c0 ?_
  by_cases c2 : hsh w = 59
  · refine w_pos c2 (eqs 2 (by decide) 1 (by simp) (by decide) (fun w' h1 h2 => ?_))
    rw [c2] at h2
    rcases uq w' h1 with e | e | e | e | e
    · rw [e, k0] at h2; exact absurd h2 (by decide)
    · exact e
    · rw [e, k3] at h2; exact absurd h2 (by decide)
    · rw [e, k4] at h2; exact absurd h2 (by decide)
    · rw [e, k5] at h2; exact absurd h2 (by decide)
  refine w_neg c2 ?_
  by_cases c3 : hsh w = 3512060
  · refine w_pos c3 (eqs 3 (by decide) 2 (by simp) (by decide) (fun w' h1 h2 => ?_))
    rw [c3] at h2
    rcases uq w' h1 with e | e | e | e | e
    · rw [e, k0] at h2; exact absurd h2 (by decide)
    · rw [e, k2] at h2; exact absurd h2 (by decide)
    · exact e
    · rw [e, k4] at h2; exact absurd h2 (by decide)
    · rw [e, k5] at h2; exact absurd h2 (by decide)
  refine w_neg c3 ?_
  by_cases c5 : hsh w = 3541896
  · refine w_pos c5 (eqs 5 (by decide) 4 (by simp) (by decide) (fun w' h1 h2 => ?_))
    rw [c5] at h2
    rcases uq w' h1 with e | e | e | e | e
    · rw [e, k0] at h2; exact absurd h2 (by decide)
    · rw [e, k2] at h2; exact absurd h2 (by decide)
    · rw [e, k3] at h2; exact absurd h2 (by decide)
    · rw [e, k4] at h2; exact absurd h2 (by decide)
    · exact e
  refine w_neg c5 (bad ?_ nx rfl)
  cases e : okW w with
  | false => rfl
  | true =>
    rcases uq w e with e | e | e | e | e
    · rw [e, k0] at c0; exact absurd rfl c0
    · rw [e, k2] at c2; exact absurd rfl c2
    · rw [e, k3] at c3; exact absurd rfl c3
    · rw [e, k4] at c4; exact absurd rfl c4
    · rw [e, k5] at c5; exact absurd rfl c5
end X
